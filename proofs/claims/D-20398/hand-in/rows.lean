section
/-- what one flag adds -/
def fg_g (a : Nat → Int32) (i : Nat) : Int32 := if a i = 0 then 1237 else 1231
/-- the hash of the first n flags -/
def fg_A (a : Nat → Int32) : Nat → Int32
  | 0 => 1
  | n + 1 => 31 * fg_A a n + fg_g a n
/-- the flag that bools stores at j -/
def fg_b (x : Int32) (j : Nat) : Int32 := if ((x.toUInt32 >>> ((nI j).toUInt32 &&& Int32.toUInt32 31)).toInt32) &&& 1 = 0 then 0 else 1
theorem fg_g0 {a : Nat → Int32} {i : Nat} (h : a i = 0) : fg_g a i = 1237 := if_pos h
theorem fg_g1 {a : Nat → Int32} {i : Nat} (h : ¬ a i = 0) : fg_g a i = 1231 := if_neg h
theorem fg_cong {a b : Nat → Int32} : ∀ n, (∀ j, j < n → a j = b j) → fg_A a n = fg_A b n := by
  intro n
  induction n with
  | zero => exact fun _ => rfl
  | succ n ih =>
    intro h
    show 31 * fg_A a n + fg_g a n = 31 * fg_A b n + fg_g b n
    rw [ih (fun j hj => h j (by omega)), show fg_g a n = fg_g b n by unfold fg_g; rw [h n (by omega)]]
theorem fg_fill {f s : Nat → Int32} {i k : Nat} {x : Int32} (hk : k = i) (h : ∀ j, j < i → s j = f j) (hx : x = f i) : ∀ j, j < i + 1 → upd s k x j = f j := by
  intro j hj
  rw [hk]
  by_cases e : j = i
  · rw [e, pk_us, hx]
  · rw [pk_un e]
    exact h j (by omega)
theorem fg_step (x w A g : Int32) : x + w * (31 * A + g) = (x + w * g) + 31 * w * A := by grind
theorem fg_cell {post : Int32 → Prop} {L : Nat} {xs : Nat → Int32} {k : Nat} (hL : L ≤ 2) (hk : k < 2) (H : ∀ r, post r) : wpL_cellAt post L xs () (nI k) :=
  pk_le L k (fun _ => H _) (fun z => ⟨pk_in k L z, H _⟩)
theorem fg_bools {post : St1 → Prop} {mc ms : Nat} {p0 p1 : Int32} {m : Nat} (e : p1 &&& 7 = nI m) (hm : m < 8) (hmc : 1 ≤ mc) (hms : 7 ≤ ms)
    (H : ∀ a, (∀ j, j < m → a j = fg_b p0 j) → post (a, m)) : wpL_bools post mc ms () p0 p1 := by
  unfold wpL_bools
  rw [e, nI_clamp (show m < 2 ^ 31 by omega)]
  refine ⟨nI_pos (by omega), nm_e ⟨by omega, hmc, by omega, ?_⟩⟩
  exact pk_loop (fun n i s => wL_bools_9 post mc ms p0 1 (0 + m) m n (nI i) s) (fun i s => ∀ j, j < i → s j = fg_b p0 j) m 0 (fun _ => 0) (by omega) (fun j hj => absurd hj (by omega))
    (fun n s h => pk_le m m (fun _ => H s h) (fun z => absurd z (by omega)))
    (fun n i s hi h hw => pk_le m i (fun z => absurd z (by omega)) (fun _ => br_c
      (fun c => ⟨pk_in i m hi, nm_e (nm_r (nI_1 i) (hw _ (fg_fill (nI_clamp (by omega)) h (if_pos c).symm)))⟩)
      (fun c => ⟨pk_in i m hi, nm_e (nm_r (nI_1 i) (hw _ (fg_fill (nI_clamp (by omega)) h (if_neg c).symm)))⟩)))
theorem fg_x1 {post : Int32 → Prop} {a : Nat → Int32} {m : Nat} (hm : m < 8) (H : post (fg_A a m)) : wpX1_flagHash post (a, m) := by
  refine nm_e ?_
  refine pk_loop (fun n i s => wX1_flagHash_10 post (nI m) a m n s (nI i)) (fun i s => s = fg_A a i) m 0 1 (by omega) rfl
    (fun n s h => pk_le m m (fun _ => by rw [h]; exact H) (fun z => absurd z (by omega)))
    (fun n i s hi h hw => pk_le m i (fun z => absurd z (by omega)) (fun _ => ⟨pk_in i m hi, nm_r (congrArg a (nI_clamp (by omega))) ?_⟩))
  exact br_c (fun c => nm_e (nm_r (nI_1 i) (hw _ (by rw [h, ← fg_g0 c]; rfl)))) (fun c => nm_e (nm_r (nI_1 i) (hw _ (by rw [h, ← fg_g1 c]; rfl))))
theorem fg_x2 {post : Int32 → Prop} {a : Nat → Int32} {m : Nat} (hm : m < 8) (H : post (fg_A a m)) : wpX2_flagHash post (a, m) := by
  refine nm_e ⟨m + 1, ?_⟩
  refine pk_loopD (σ := Int32 × Int32) (fun n i s => wX2_flagHash_9 post a m n s.1 s.2 (nI i - 1)) (fun i s => i ≤ m ∧ s.1 + s.2 * fg_A a i = fg_A a m) ?_ ?_ m (0, 1) ⟨Nat.le_refl m, ?_⟩
  · intro n s h
    refine br_t (show nI 0 - 1 < 0 by decide) ?_
    have e : s.1 + s.2 = fg_A a m := by
      rw [← h.2, show fg_A a 0 = 1 from rfl, Int32.mul_one]
    rw [e]
    exact H
  · intro n i s h hw
    obtain ⟨h1, h2⟩ := h
    rw [nI_pred]
    have e : nI i + (-1) = nI i - 1 := (Int32.sub_eq_add_neg _ _).symm
    have k : ∀ g, fg_g a i = g → wX2_flagHash_9 post a m n (s.1 + s.2 * g) (31 * s.2) (nI i - 1) := by
      intro g hg
      refine hw (s.1 + s.2 * g, 31 * s.2) ⟨by omega, ?_⟩
      show s.1 + s.2 * g + 31 * s.2 * fg_A a i = fg_A a m
      rw [← fg_step, ← h2, ← hg]
      rfl
    refine br_f (nI_pos (by omega)) ⟨pk_in i m (by omega), ?_⟩
    rw [nI_clamp (show i < 2 ^ 31 by omega)]
    exact br_c (fun c => nm_e (nm_e (nm_r e (k _ (fg_g0 c))))) (fun c => nm_e (nm_e (nm_r e (k _ (fg_g1 c)))))
  · show 0 + 1 * fg_A a m = fg_A a m
    rw [Int32.zero_add, Int32.one_mul]
theorem fg_lawOf {post : Int32 → St0 → Prop} {p0 p1 : Int32} (H : post 1 ()) : wpL_lawOf post 2 14 () p0 p1 := by
  obtain ⟨m, hm, e⟩ := pk_andE p1 (m := 7) 3 (by decide)
  refine ⟨1, 7, by omega, by omega, fg_bools e hm (by omega) (by omega) (fun a ha => ?_)⟩
  refine fg_x1 hm ⟨1, 7, by omega, by omega, fg_bools e hm (by omega) (by omega) (fun b hb => ?_)⟩
  exact fg_x2 hm (br_t (fg_cong m (fun j hj => by rw [ha j hj, hb j hj])) H)
end
section
theorem i_vc (xs : Nat → Int32) (L : Nat) (hL : L ≤ 2) : wpL_law (fun r => r = 1) L xs :=
  fg_cell (k := 0) hL (by omega) (fun r_1 => fg_cell (k := 1) hL (by omega) (fun r_2 => ⟨2, 14, by omega, by omega, fg_lawOf rfl⟩))
end
