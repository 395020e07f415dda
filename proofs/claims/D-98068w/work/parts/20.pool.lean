/-! Days kept: a row of days in the tail, one taken out and put back -/
set_option maxRecDepth 100000
theorem vP_of {D : va_G} {cl : List vw_C} {ws : va_W} {H : Heap} (h : ∀ q ∈ ws, va_at D cl q H) : va_P D cl ws H := fun _ q hk => h q (List.mem_of_getElem? hk)
theorem vP_to {D : va_G} {cl : List vw_C} {ws : va_W} {H : Heap} (h : va_P D cl ws H) : ∀ q ∈ ws, va_at D cl q H := fun q hq => by
  obtain ⟨k, hk⟩ := List.getElem?_of_mem hq
  exact h k q hk
theorem vP_perm {D : va_G} {cl : List vw_C} {a b : va_W} {H : Heap} (p : a.Perm b) (h : va_P D cl a H) : va_P D cl b H := vP_of fun q hq => vP_to h q (p.mem_iff.mpr hq)
theorem vD_iff {A : Nat → Prop} {ws : va_W} : va_D A ws ↔ (ws.map (·.1)).Nodup ∧ ∀ q ∈ ws, A q.1 := by
  constructor
  · intro h
    refine ⟨?_, fun q hq => ?_⟩
    · rw [List.nodup_iff_pairwise_ne, List.pairwise_iff_getElem]
      intro i j hi hj hij e
      rw [List.length_map] at hi hj
      rw [List.getElem_map, List.getElem_map] at e
      have := h.1 i j ws[i] ws[j] (List.getElem?_eq_getElem hi) (List.getElem?_eq_getElem hj) e
      omega
    · obtain ⟨k, hk⟩ := List.getElem?_of_mem hq
      exact h.2 k q hk
  · intro ⟨h1, h2⟩
    refine ⟨fun i j p q hi hj e => ?_, fun k q hk => h2 q (List.mem_of_getElem? hk)⟩
    rw [List.nodup_iff_pairwise_ne, List.pairwise_iff_getElem] at h1
    obtain ⟨a1, a2⟩ := List.getElem?_eq_some_iff.mp hi
    obtain ⟨b1, b2⟩ := List.getElem?_eq_some_iff.mp hj
    rcases Nat.lt_trichotomy i j with q1 | q1 | q1
    · exact absurd (by rw [List.getElem_map, List.getElem_map, a2, b2]; exact e) (h1 i j (by rw [List.length_map]; exact a1) (by rw [List.length_map]; exact b1) q1)
    · exact q1
    · exact absurd (by rw [List.getElem_map, List.getElem_map, a2, b2]; exact e.symm) (h1 j i (by rw [List.length_map]; exact b1) (by rw [List.length_map]; exact a1) q1)
theorem vD_perm {A : Nat → Prop} {a b : va_W} (p : a.Perm b) (h : va_D A a) : va_D A b := by
  rw [vD_iff] at h ⊢
  exact ⟨(p.map _).nodup_iff.mp h.1, fun q hq => h.2 q (p.mem_iff.mpr hq)⟩
theorem vPD_perm {G : Gm} {A : Nat → Prop} {a b : va_W} {H : Heap} (p : a.Perm b) (h : va_P G.1 clG a H ∧ va_D A a) : va_P G.1 clG b H ∧ va_D A b := ⟨vP_perm p h.1, vD_perm p h.2⟩
/-- a day: its place, its row's place, where, when, what is got -/
abbrev Dy : Type := Nat × Nat × Int × Int × (Nat → Int)
def dyC (G : Gm) (d : Dy) : va_W := [(d.1, .inr (5, [.ref d.2.1, .int (iI d.2.2.1), .int (iI d.2.2.2.1)])), (d.2.1, .inl (G.2.1 3, 5, .inr (.inl (aL d.2.2.2.2))))]
def pool (G : Gm) (F : Nat → Dy) (n : Nat) : va_W :=
  match n with
  | 0 => []
  | n + 1 => pool G F n ++ dyC G (F n)
termination_by n
def poolx (G : Gm) (F : Nat → Dy) (j : Nat) (n : Nat) : va_W :=
  match n with
  | 0 => []
  | n + 1 => if n = j then poolx G F j n else poolx G F j n ++ dyC G (F n)
termination_by n
theorem pool_0 {G : Gm} {F : Nat → Dy} : pool G F 0 = [] := by rw [pool]
theorem pool_s {G : Gm} {F : Nat → Dy} {n : Nat} : pool G F (n + 1) = pool G F n ++ dyC G (F n) := by rw [pool]
theorem poolx_0 {G : Gm} {F : Nat → Dy} {j : Nat} : poolx G F j 0 = [] := by rw [poolx]
theorem poolx_s {G : Gm} {F : Nat → Dy} {j n : Nat} : poolx G F j (n + 1) = if n = j then poolx G F j n else poolx G F j n ++ dyC G (F n) := by rw [poolx]
theorem poolx_ge {G : Gm} {F : Nat → Dy} {j : Nat} : ∀ n : Nat, n ≤ j → poolx G F j n = pool G F n
  | 0, _ => by rw [poolx_0, pool_0]
  | n + 1, h => by
    rw [poolx_s, if_neg (by omega), poolx_ge n (by omega), pool_s]
theorem pool_out {G : Gm} {F : Nat → Dy} {j : Nat} : ∀ n : Nat, j < n → (pool G F n).Perm (dyC G (F j) ++ poolx G F j n)
  | 0, h => absurd h (Nat.not_lt_zero _)
  | n + 1, h => by
    rw [pool_s, poolx_s]
    by_cases e : n = j
    · rw [if_pos e]
      subst e
      rw [poolx_ge n (Nat.le_refl _)]
      exact List.perm_append_comm
    · rw [if_neg e, ← List.append_assoc]
      exact (pool_out n (by omega)).append_right _
theorem pool_congr {G : Gm} {F F' : Nat → Dy} : ∀ n : Nat, (∀ k, k < n → F k = F' k) → pool G F n = pool G F' n
  | 0, _ => by rw [pool_0, pool_0]
  | n + 1, h => by
    rw [pool_s, pool_s, pool_congr n (fun k hk => h k (by omega)), h n (Nat.lt_succ_self n)]
theorem poolx_congr {G : Gm} {F F' : Nat → Dy} {j : Nat} : ∀ n : Nat, (∀ k, k < n → k ≠ j → F k = F' k) → poolx G F j n = poolx G F' j n
  | 0, _ => by rw [poolx_0, poolx_0]
  | n + 1, h => by
    rw [poolx_s, poolx_s, poolx_congr n (fun k hk q => h k (by omega) q)]
    by_cases e : n = j
    · rw [if_pos e, if_pos e]
    · rw [if_neg e, if_neg e, h n (Nat.lt_succ_self n) e]
theorem pool_in {G : Gm} {F : Nat → Dy} {j : Nat} {d : Dy} (n : Nat) (h : j < n) : (dyC G d ++ poolx G F j n).Perm (pool G (up F j d) n) := by
  have e1 : poolx G F j n = poolx G (up F j d) j n := poolx_congr n (fun k _ q => (up_n q).symm)
  have e2 : d = up F j d j := up_s.symm
  rw [e1]
  have := (pool_out (G := G) (F := up F j d) n h).symm
  rw [← e2] at this
  exact this
/-- the first becomes the last -/
def rotF (F : Nat → Dy) (n : Nat) : Nat → Dy := fun k => if k + 1 < n then F (k + 1) else F 0
theorem pool_shift {G : Gm} {F : Nat → Dy} : ∀ n : Nat, (pool G F (n + 1)).Perm (pool G (fun k => F (k + 1)) n ++ dyC G (F 0))
  | 0 => by
    rw [pool_s, pool_0, pool_0]
  | n + 1 => by
    rw [pool_s (n := n + 1), pool_s (F := fun k => F (k + 1))]
    refine ((pool_shift n).append_right _).trans ?_
    rw [List.append_assoc, List.append_assoc]
    exact List.Perm.append_left _ List.perm_append_comm
theorem pool_rot {G : Gm} {F : Nat → Dy} (n : Nat) : (pool G F (n + 1)).Perm (pool G (rotF F (n + 1)) (n + 1)) := by
  refine (pool_shift n).trans ?_
  rw [pool_s (F := rotF F (n + 1)), pool_congr (F := fun k => F (k + 1)) (F' := rotF F (n + 1)) n (fun k hk => (if_pos (by omega)).symm), show rotF F (n + 1) n = F 0 from if_neg (by omega)]
theorem pool_mem {G : Gm} {F : Nat → Dy} {k : Nat} : ∀ n : Nat, k < n → ((F k).1, .inr (5, [.ref (F k).2.1, .int (iI (F k).2.2.1), .int (iI (F k).2.2.2.1)])) ∈ pool G F n := fun n h => (pool_out (G := G) n h).mem_iff.mpr (List.mem_append_left _ List.mem_cons_self)
def uA (F : Nat → Dy) : Nat → Option Nat := fun k => some (F k).1
/-- one day out of the tail's row, to the front; and back -/
theorem day_out {G : Gm} {A : Nat → Prop} {H : Heap} {X wl : va_W} {F : Nat → Dy} (n j : Nat) (h : j < n) (hP : va_P G.1 clG (X ++ (pool G F n ++ wl)) H) (hD : va_D A (X ++ (pool G F n ++ wl))) : va_P G.1 clG ((X ++ dyC G (F j)) ++ (poolx G F j n ++ wl)) H ∧ va_D A ((X ++ dyC G (F j)) ++ (poolx G F j n ++ wl)) := by
  refine vPD_perm ?_ ⟨hP, hD⟩
  rw [List.append_assoc]
  refine List.Perm.append_left _ ?_
  rw [← List.append_assoc]
  exact (pool_out n h).append_right _
theorem day_in {G : Gm} {A : Nat → Prop} {H : Heap} {X wl : va_W} {F : Nat → Dy} (n j : Nat) (d : Dy) (h : j < n) (hP : va_P G.1 clG ((X ++ dyC G d) ++ (poolx G F j n ++ wl)) H) (hD : va_D A ((X ++ dyC G d) ++ (poolx G F j n ++ wl))) : va_P G.1 clG (X ++ (pool G (up F j d) n ++ wl)) H ∧ va_D A (X ++ (pool G (up F j d) n ++ wl)) := by
  refine vPD_perm ?_ ⟨hP, hD⟩
  rw [List.append_assoc]
  refine List.Perm.append_left _ ?_
  rw [← List.append_assoc]
  exact (pool_in n h).append_right _
theorem pool_turn {G : Gm} {A : Nat → Prop} {H : Heap} {X wl : va_W} {F : Nat → Dy} (n : Nat) (hP : va_P G.1 clG (X ++ (pool G F (n + 1) ++ wl)) H) (hD : va_D A (X ++ (pool G F (n + 1) ++ wl))) : va_P G.1 clG (X ++ (pool G (rotF F (n + 1)) (n + 1) ++ wl)) H ∧ va_D A (X ++ (pool G (rotF F (n + 1)) (n + 1) ++ wl)) :=
  vPD_perm (List.Perm.append_left _ ((pool_rot n).append_right _)) ⟨hP, hD⟩
/-- the first sixteen turn -/
def rot16 (F : Nat → Dy) : Nat → Dy := fun k => if k < 16 then rotF F 16 k else F k
theorem pool_rot19 {G : Gm} {F : Nat → Dy} : (pool G F 19).Perm (pool G (rot16 F) 19) := by
  have e : pool G (rot16 F) 16 = pool G (rotF F 16) 16 := pool_congr 16 (fun k hk => if_pos hk)
  have e1 : ∀ F' : Nat → Dy, pool G F' 19 = ((pool G F' 16 ++ dyC G (F' 16)) ++ dyC G (F' 17)) ++ dyC G (F' 18) := fun F' => by rw [pool_s (n := 18), pool_s (n := 17), pool_s (n := 16)]
  rw [e1, e1, e]
  exact (((pool_rot 15).append_right _).append_right _).append_right _
theorem pool_turn19 {G : Gm} {A : Nat → Prop} {H : Heap} {X wl : va_W} {F : Nat → Dy} (hP : va_P G.1 clG (X ++ (pool G F 19 ++ wl)) H) (hD : va_D A (X ++ (pool G F 19 ++ wl))) : va_P G.1 clG (X ++ (pool G (rot16 F) 19 ++ wl)) H ∧ va_D A (X ++ (pool G (rot16 F) 19 ++ wl)) :=
  vPD_perm (List.Perm.append_left _ (pool_rot19.append_right _)) ⟨hP, hD⟩
def dyS (d : Dy) (p m : Int) (g : Nat → Int) : Dy := (d.1, d.2.1, p, m, g)
def doneF (F : Nat → Dy) (un p m : Int) (g : Nat → Int) : Nat → Dy := if un = 16 then up (rot16 F) 15 (dyS (rot16 F 15) p m g) else up F un.toNat (dyS (F un.toNat) p m g)
theorem uA_set {F : Nat → Dy} {j : Nat} {p m : Int} {g : Nat → Int} : uA (up F j (dyS (F j) p m g)) = uA F := by
  funext k
  unfold uA
  by_cases e : k = j
  · subst e
    rw [up_s]
    rfl
  · rw [up_n e]
theorem uA_done {F : Nat → Dy} {un p m : Int} {g : Nat → Int} : uA (doneF F un p m g) = if un = 16 then uA (rot16 F) else uA F := by
  unfold doneF
  by_cases e : un = 16
  · rw [if_pos e, if_pos e, uA_set]
  · rw [if_neg e, if_neg e, uA_set]
theorem uA_turn {F : Nat → Dy} {k : Nat} (hk : k < 16) : up (fun q => if q + 1 < 16 then uA F (q + 1) else uA F q) 15 (some (F 0).1) k = uA (rot16 F) k := by
  unfold uA rot16 rotF
  rw [if_pos hk]
  by_cases e : k = 15
  · subst e
    rw [up_s, if_neg (by omega)]
  · rw [up_n e, if_pos (by omega)]
    show some _ = _
    by_cases q : k + 1 < 16
    · simp only [if_pos q]
    · exact absurd hk (by omega)
theorem uA_mark {F : Nat → Dy} {un p m : Int} {g : Nat → Int} {k : Nat} : uA (doneF F un p m g) (16 + k) = uA F (16 + k) := by
  rw [uA_done]
  by_cases e : un = 16
  · rw [if_pos e]
    unfold uA rot16
    rw [if_neg (by omega)]
  · rw [if_neg e]
theorem uA_shift {F : Nat → Dy} {n k : Nat} (hn : 1 ≤ n) : up (fun q => if q + 1 < n then uA F (q + 1) else uA F q) (n - 1) (some (F n).1) k = if k + 1 < n + 1 then uA F (k + 1) else uA F k := by
  by_cases e : k = n - 1
  · subst e
    rw [up_s, if_pos (by omega), show n - 1 + 1 = n by omega]
    rfl
  · rw [up_n e]
    by_cases q : k + 1 < n
    · rw [if_pos q, if_pos (by omega)]
    · rw [if_neg q, if_neg (by omega)]
theorem up_self {F : Nat → Dy} {j : Nat} : up F j (dyS (F j) (F j).2.2.1 (F j).2.2.2.1 (F j).2.2.2.2) = F := by
  funext k
  by_cases e : k = j
  · subst e
    rw [up_s]
    rfl
  · rw [up_n e]
/-- a day marked -/
def markF (F : Nat → Dy) (t mk p m : Int) (g : Nat → Int) : Nat → Dy := if t = 0 then up F (16 + mk.toNat) (dyS (F (16 + mk.toNat)) p m g) else F
theorem uA_markF {F : Nat → Dy} {t mk p m : Int} {g : Nat → Int} : uA (markF F t mk p m g) = uA F := by
  unfold markF
  split
  · exact uA_set
  · rfl
