section
/-! ===== the pure picture: the sum of the first places; whether the last is the greatest ===== -/
def aq_sum (a : Nat → Int32) : Nat → Int64
  | 0 => 0
  | n + 1 => aq_sum a n + (a n).toInt64
/-- no place of the m + 1 is above the last -/
def aq_top (a : Nat → Int32) (m : Nat) : Prop := ∀ j, j < m + 1 → a j ≤ a m
/-! ===== the class: the greatest is kept ===== -/
theorem aq_x0 {post : Int64 → Prop} {a : Nat → Int32} {m : Nat} (hm : m < 7)
    (H1 : aq_top a m → post (aq_sum a (m + 1) * 10 + (1 : Int32).toInt64))
    (H0 : ¬ aq_top a m → post (aq_sum a (m + 1) * 10 + (0 : Int32).toInt64)) :
    wpX0_sumAndTop post (a, m + 1) := by
  have hl : (Int32.ofNat (m + 1) - 1) = nI m := nI_pred m
  refine br_f (nI_ne0 (by omega) (by omega)) ⟨pk_in 0 (m + 1) (by omega), nm_e (nm_e ?_)⟩
  refine pk_loop (σ := Int32 × Int64) (fun n i s => wX0_sumAndTop_26 post (nI (m + 1)) a (m + 1) n s.1 s.2 (nI i))
    (fun i s => s.2 = aq_sum a i ∧ (∀ j, j < i → a j ≤ s.1) ∧ ∃ k, k < m + 1 ∧ s.1 = a k) (m + 1) 0 (a 0, 0) (by omega)
    ⟨rfl, fun j hj => absurd hj (by omega), 0, by omega, rfl⟩ ?_ ?_
  · intro n s h
    obtain ⟨g, t⟩ := s
    obtain ⟨h1, h2, k, hk, h3⟩ := h
    dsimp only at h1 h2 h3
    refine pk_le (m + 1) (m + 1) (fun _ => ?_) (fun z => absurd z (by omega))
    rw [hl, nI_clamp (show m < 2 ^ 31 by omega)]
    refine ⟨pk_in m (m + 1) (by omega), br_c (fun e => ?_) (fun e => ?_)⟩
    · dsimp only at e ⊢
      rw [h1]
      exact H1 (fun j hj => by rw [← e]; exact h2 j hj)
    · dsimp only at e ⊢
      rw [h1]
      refine H0 (fun ht => e (Int32.le_antisymm ?_ (h2 m (by omega))))
      rw [h3]
      exact ht k hk
  · intro n i s hi h hw
    obtain ⟨g, t⟩ := s
    obtain ⟨h1, h2, k, hk, h3⟩ := h
    dsimp only at h1 h2 h3
    refine pk_le (m + 1) i (fun z => absurd z (by omega)) (fun _ => ⟨pk_in i (m + 1) hi, nm_r (e' := a i) (by rw [nI_clamp (by omega)]) (nm_e (br_c (fun e => ?_) (fun e => ?_)))⟩)
    · refine nm_r (nI_1 i) (hw (g, t + (a i).toInt64) ⟨?_, lt_s h2 e, k, hk, h3⟩)
      dsimp only
      rw [h1]
      rfl
    · have e' : g ≤ a i := Int32.le_of_lt (Int32.not_le.mp e)
      refine nm_r (nI_1 i) (hw (a i, t + (a i).toInt64) ⟨?_, lt_s (fun j hj => Int32.le_trans (h2 j hj) e') (Int32.le_refl _), i, hi, rfl⟩)
      dsimp only
      rw [h1]
      rfl
/-! ===== the twin: those above the last are counted ===== -/
theorem aq_x1 {post : Int64 → Prop} {a : Nat → Int32} {m : Nat} (hm : m < 7)
    (H1 : aq_top a m → post (10 * aq_sum a (m + 1) + 1))
    (H0 : ¬ aq_top a m → post (10 * aq_sum a (m + 1))) :
    wpX1_sumAndTop post (a, m + 1) := by
  have hl : (Int32.ofNat (m + 1) - 1) = nI m := nI_pred m
  refine br_f (nI_ne0 (by omega) (by omega)) ?_
  refine Exists.elim (pk_loop (σ := Nat × Int64) (fun n i s => wX1_sumAndTop_16 post a (m + 1) n s.2 (nI s.1) (nI i))
    (fun i s => s.2 = aq_sum a i ∧ s.1 ≤ i ∧ (s.1 = 0 ↔ ∀ j, j < i → a j ≤ a m)) (m + 1) 0 (0, 0) (by omega)
    ⟨rfl, Nat.le_refl 0, fun _ j hj => absurd hj (by omega), fun _ => rfl⟩ ?_ ?_) (fun n hn => ⟨n, hn⟩)
  · intro n s h
    obtain ⟨c, t⟩ := s
    obtain ⟨h1, h2, h3⟩ := h
    dsimp only at h1 h2 h3
    refine pk_le (m + 1) (m + 1) (fun _ => pk_eq c 0 (fun e => ?_) (fun e => ?_)) (fun z => absurd z (by omega))
    · dsimp only
      rw [h1]
      exact H1 (h3.mp e)
    · dsimp only
      rw [h1]
      exact H0 (fun ht => e (h3.mpr ht))
  · intro n i s hi h hw
    obtain ⟨c, t⟩ := s
    obtain ⟨h1, h2, h3⟩ := h
    dsimp only at h1 h2 h3
    refine pk_le (m + 1) i (fun z => absurd z (by omega)) (fun _ => ?_)
    rw [hl, nI_clamp (show m < 2 ^ 31 by omega), nI_clamp (show i < 2 ^ 31 by omega)]
    refine ⟨pk_in i (m + 1) hi, nm_e ⟨pk_in i (m + 1) hi, pk_in m (m + 1) (by omega), br_c (fun e => ?_) (fun e => ?_)⟩⟩
    · refine nm_r (nI_1 i) (hw (c, t + (a i).toInt64) ⟨?_, by dsimp only; omega, fun z => lt_s (h3.mp z) e, fun z => h3.mpr (fun j hj => z j (by omega))⟩)
      dsimp only
      rw [h1]
      rfl
    · refine nm_r (nI_1 c) (nm_r (nI_1 i) (hw (c + 1, t + (a i).toInt64) ⟨?_, by dsimp only; omega, fun z => absurd z (Nat.succ_ne_zero c), fun z => absurd (z i (by omega)) e⟩))
      dsimp only
      rw [h1]
      rfl
end
section
/-! ===== the two answers are one ===== -/
theorem aq_one (s : Int64) : s * 10 + (1 : Int32).toInt64 = 10 * s + 1 := by
  rw [Int64.mul_comm]
  rfl
theorem aq_none (s : Int64) : s * 10 + (0 : Int32).toInt64 = 10 * s := by
  rw [Int64.mul_comm]
  exact Int64.add_zero _
theorem aq_same {post : Int32 → St0 → Prop} {a : Nat → Int32} {n : Nat} (hn : n < 8) (H : post 1 ()) :
    wpX0_sumAndTop (fun r_9 => (wpX1_sumAndTop (fun r_10 => (((r_9 = r_10 → (post 1 ())) ∧ (¬ r_9 = r_10 → (post 0 ()))))) (a, n))) (a, n) := by
  cases n with
  | zero => exact br_t rfl (br_t rfl (br_t rfl H))
  | succ m =>
    refine aq_x0 (by omega) (fun h => ?_) (fun h => ?_)
    · exact aq_x1 (by omega) (fun _ => br_t (aq_one _) H) (fun g => absurd h g)
    · exact aq_x1 (by omega) (fun g => absurd g h) (fun _ => br_t (aq_none _) H)
/-! ===== the law: whatever the array was filled with ===== -/
theorem aq_fill {post : Int32 → St0 → Prop} {mc ms kc ks n : Nat} {x0 x1 x3 : Int32} {a : Nat → Int32} (hn : n < 8) (H : post 1 ()) :
    ∃ fu, wL_lawOf_11 post mc ms x0 x1 x3 kc ks n fu 0 a :=
  pk_loop (fun f i s => wL_lawOf_11 post mc ms x0 x1 x3 kc ks n f (nI i) s) (fun _ _ => True) n 0 a (by omega) trivial
    (fun f s _ => pk_le n n (fun _ => aq_same hn H) (fun z => absurd z (by omega)))
    (fun f i s hi _ hw => pk_le n i (fun z => absurd z (by omega)) (fun _ => br_c
      (fun _ => ⟨pk_in i n hi, nm_e (nm_r (nI_1 i) (hw _ trivial))⟩)
      (fun _ => ⟨pk_in i n hi, nm_e (nm_r (nI_1 i) (hw _ trivial))⟩)))
theorem aq_of {post : Int32 → St0 → Prop} {p0 p1 p2 p3 : Int32} (H : post 1 ()) : wpL_lawOf post 1 8 () p0 p1 p2 p3 := by
  obtain ⟨j, hj, e⟩ := pk_andE p2 (m := 7) 3 (by decide)
  have hj' : j < 8 := hj
  unfold wpL_lawOf
  rw [e]
  exact ⟨nI_pos (by omega), nm_r (nI_clamp (by omega)) ⟨by omega, by omega, by omega, aq_fill hj' H⟩⟩
theorem aq_cell {post : Int32 → Prop} {L k : Nat} {xs : Nat → Int32} (hL : L ≤ 4) (hk : k ≤ 3) (H : ∀ r, post r) : wpL_cellAt post L xs () (nI k) :=
  pk_le L k (fun _ => H _) (fun z => ⟨pk_in k L z, H _⟩)
theorem i_vc (xs : Nat → Int32) (L : Nat) (hL : L ≤ 4) : wpL_law (fun r => r = 1) L xs :=
  aq_cell (k := 0) hL (by omega) (fun _ => aq_cell (k := 1) hL (by omega) (fun _ => aq_cell (k := 2) hL (by omega) (fun _ => aq_cell (k := 3) hL (by omega) (fun _ =>
    ⟨1, 8, by omega, by omega, aq_of rfl⟩))))
end
