section
/-! ===== numbers: the digits of a weight word ===== -/
theorem ad_ix (j : Nat) : (0 : Int32) * 4 + nI j = nI j := by
  rw [show (0 : Int32) * 4 = 0 from by decide, Int32.zero_add]
theorem ad_dv {k : Nat} (hk : k < 2 ^ 31) : nI k / 10 = nI (k / 10) := pk_div (d := 10) hk (by decide) (by decide)
theorem ad_dh {k : Nat} (hk : k < 2 ^ 31) : nI k / 100 = nI (k / 100) := pk_div (d := 100) hk (by decide) (by decide)
/-- the last digit is 9, in ints and in naturals -/
theorem ad_d9 {k : Nat} (hk : k < 2 ^ 31) : nI k - nI k / 10 * 10 = 9 ↔ k % 10 = 9 := by
  have e : nI k - nI k / 10 * 10 = nI (k % 10) := pk_rem (d := 10) hk (by decide) (by decide)
  rw [e]
  exact nI_eq (a := k % 10) (b := 9) (by omega) (by decide)
theorem ad_some {k : Nat} (h : k % 10 = 9 ∨ k / 10 % 10 = 9 ∨ k / 100 % 10 = 9) : ∃ i : Nat, i < 4 ∧ k / 10 ^ i % 10 = 9 := by
  rcases h with h | h | h
  · exact ⟨0, by decide, by rwa [Nat.pow_zero, Nat.div_one]⟩
  · exact ⟨1, by decide, h⟩
  · exact ⟨2, by decide, h⟩
/-- the law looks at three digits; the fourth is at most 8 -/
theorem ad_none {k : Nat} (hk : k ≤ 8888) (h0 : ¬ k % 10 = 9) (h1 : ¬ k / 10 % 10 = 9) (h2 : ¬ k / 100 % 10 = 9) : ∀ i : Nat, i < 4 → ¬ k / 10 ^ i % 10 = 9 := by
  intro i hi
  have e : i = 0 ∨ i = 1 ∨ i = 2 ∨ i = 3 := by omega
  rcases e with e | e | e | e
  · subst e
    rwa [Nat.pow_zero, Nat.div_one]
  · subst e
    exact h1
  · subst e
    exact h2
  · subst e
    show ¬ k / 1000 % 10 = 9
    omega
/-! ===== AlignmentDesk: one lemma a method, at the states that the law brings about ===== -/
section
variable {c s pl : Int32} {a1 a2 a3 a4 a5 : Nat → Int32}
/-- a desk without frames weighs nothing -/
theorem ad_weigh {post : Int32 → St2 → Prop} {t m v : Int32} (H : post 0 (0, s, pl, a1, a2, a3, a4, a5)) : wpX_weigh post (0, s, pl, a1, a2, a3, a4, a5) t m v :=
  br_c (fun _ => br_t rfl H) (fun h => br_t (Int32.not_lt.mp h) (br_t rfl H))
/-- an empty desk has the total 1 -/
theorem ad_total {post : Int32 → St2 → Prop} (H : post 1 (0, 0, 0, a1, a2, a3, a4, a5)) : wpX_total post (0, 0, pl, a1, a2, a3, a4, a5) :=
  ⟨1, br_t (by decide) (br_t rfl (br_t rfl H))⟩
/-- the loop that stores the four weights of the first frame -/
theorem ad_60 {post : Int32 → St2 → Prop} (H : ∀ a, post 0 (1, 0, pl, a, a2, a3, a4, a5)) : ∀ (n j : Nat) (x : Int32) (a : Nat → Int32), j + n = 4 → wX_frame_60 post 0 0 pl (n + 1) x (nI j) a a2 a3 a4 a5
  | 0, j, x, a, h => by
    have e : j = 4 := by omega
    subst e
    refine br_t (by decide) (nm_r (e' := 1) (by decide) ?_)
    rw [show (1 : Int32) - 1 = 0 from by decide]
    exact H a
  | n + 1, j, x, a, h => by
    refine br_f (nI_ge (b := 4) (by omega) (by decide)) ⟨by decide, ?_, fun a' _ => ⟨by decide, fun x' _ => nm_r (nI_1 j) ?_⟩⟩
    · rw [ad_ix]
      exact vp_in_nI (by omega) (by decide)
    · exact ad_60 H n (j + 1) x' a' (by omega)
/-- the loop that looks at the digits: none is 9 -/
theorem ad_17g {post : Int32 → St2 → Prop} {x1 : Int32} (H : ∀ a, post 0 (1, 0, pl, a, a2, a3, a4, a5)) : ∀ (n j k : Nat), j + n = 4 → k < 2 ^ 31 → (∀ i : Nat, i < n → ¬ k / 10 ^ i % 10 = 9) → wX_frame_17 post x1 0 0 pl a1 a2 a3 a4 a5 (n + 1) (nI k) (nI j)
  | 0, j, k, h, _, _ => by
    have e : j = 4 := by omega
    subst e
    exact br_t (by decide) (br_t (by decide) ⟨5, ad_60 H 4 0 x1 a1 (by omega)⟩)
  | n + 1, j, k, h, hk, hd => by
    have h0 : ¬ k % 10 = 9 := by
      have t := hd 0 (by omega)
      rwa [Nat.pow_zero, Nat.div_one] at t
    refine br_f (nI_ge (b := 4) (by omega) (by decide)) ⟨by decide, br_f (fun z => h0 ((ad_d9 hk).mp z)) ⟨by decide, nm_r (ad_dv hk) (nm_r (nI_1 j) ?_)⟩⟩
    refine ad_17g H n (j + 1) (k / 10) (by omega) (by omega) (fun i hi => ?_)
    have t := hd (i + 1) (by omega)
    rwa [Nat.pow_succ', ← Nat.div_div_eq_div_mul] at t
/-- the same: some digit is 9 -/
theorem ad_17b {post : Int32 → St2 → Prop} {x1 : Int32} (H : post (-1) (0, 0, pl, a1, a2, a3, a4, a5)) : ∀ (n j k : Nat), j + n = 4 → k < 2 ^ 31 → (∃ i : Nat, i < n ∧ k / 10 ^ i % 10 = 9) → wX_frame_17 post x1 0 0 pl a1 a2 a3 a4 a5 (n + 1) (nI k) (nI j)
  | 0, j, k, h, _, hd => by
    obtain ⟨i, hi, _⟩ := hd
    omega
  | n + 1, j, k, h, hk, hd => by
    refine br_f (nI_ge (b := 4) (by omega) (by decide)) ⟨by decide, br_c (fun _ => H) (fun z => ⟨by decide, nm_r (ad_dv hk) (nm_r (nI_1 j) ?_)⟩)⟩
    refine ad_17b H n (j + 1) (k / 10) (by omega) (by omega) ?_
    obtain ⟨i, hi, t⟩ := hd
    cases i with
    | zero =>
      rw [Nat.pow_zero, Nat.div_one] at t
      exact absurd ((ad_d9 hk).mpr t) z
    | succ i =>
      rw [Nat.pow_succ', ← Nat.div_div_eq_div_mul] at t
      exact ⟨i, by omega, t⟩
/-- write on an empty label, as the law foresees it -/
theorem ad_write {post : Int32 → St2 → Prop} {m z : Int32} (hz : (z = 1 ∧ ¬ m < 1 ∧ ¬ 3 < m) ∨ (z = -1 ∧ (m < 1 ∨ 3 < m))) (H : ∀ s' b, post z (c, s', pl, a1, b, a3, a4, a5)) : wpX_write post (c, 0, pl, a1, a2, a3, a4, a5) m := by
  rcases hz with ⟨e, h1, h3⟩ | ⟨e, h⟩
  · subst e
    refine br_f h1 (br_t (Int32.not_lt.mp h3) (br_t (by decide) ⟨vp_in_iff.mpr (by decide), fun b _ => nm_r (e' := 1) (by decide) (H 1 b)⟩))
  · subst e
    refine br_c (fun _ => H 0 a2) (fun h1 => br_f ?_ (H 0 a2))
    rcases h with h | h
    · exact absurd h h1
    · exact Int32.not_le.mpr h
end
/-! ===== the law ===== -/
/-- frame on an empty desk answers r and leaves the label empty -/
def ad_F (w r pl : Int32) (a1 a2 a3 a4 a5 : Nat → Int32) : Prop := ∀ post : Int32 → St2 → Prop, (∀ c a, post r (c, 0, pl, a, a2, a3, a4, a5)) → wpX_frame post (0, 0, pl, a1, a2, a3, a4, a5) w
section
variable {pl : Int32} {a1 a2 a3 a4 a5 : Nat → Int32}
theorem ad_Fneg {w : Int32} (h : w < 0) : ad_F w (-1) pl a1 a2 a3 a4 a5 := fun _ H => br_t h (H 0 a1)
theorem ad_Fbig {w : Int32} (h0 : ¬ w < 0) (h : 8888 < w) : ad_F w (-1) pl a1 a2 a3 a4 a5 := fun _ H => br_f h0 (br_f (Int32.not_le.mpr h) (H 0 a1))
theorem ad_Fnine {k : Nat} (hk : k ≤ 8888) (h : ∃ i : Nat, i < 4 ∧ k / 10 ^ i % 10 = 9) : ad_F (nI k) (-1) pl a1 a2 a3 a4 a5 := fun _ H => br_f (nI_pos (by omega)) (br_t (nI_le (b := 8888) hk (by decide)) ⟨5, ad_17b (H 0 a1) 4 0 k (by omega) (by omega) h⟩)
theorem ad_Fok {k : Nat} (hk : k ≤ 8888) (h : ∀ i : Nat, i < 4 → ¬ k / 10 ^ i % 10 = 9) : ad_F (nI k) 0 pl a1 a2 a3 a4 a5 := fun _ H => br_f (nI_pos (by omega)) (br_t (nI_le (b := 8888) hk (by decide)) ⟨5, ad_17g (fun a => H 1 a) 4 0 k (by omega) (by omega) h⟩)
theorem ad_127 {post : Int32 → St0 → Prop} {mc ms kc ks : Nat} {w m r z : Int32} (hp : post 1 ()) (hf : ad_F w r pl a1 a2 a3 a4 a5) (hz : (z = 1 ∧ ¬ m < 1 ∧ ¬ 3 < m) ∨ (z = -1 ∧ (m < 1 ∨ 3 < m))) : wL_lawOf_127 post mc ms w m r z kc ks 0 0 pl a1 a2 a3 a4 a5 :=
  hf _ (fun _ _ => br_t rfl (ad_write hz (fun _ _ => br_t rfl hp)))
theorem ad_110 {post : Int32 → St0 → Prop} {mc ms kc ks : Nat} {w m r : Int32} (hp : post 1 ()) (hf : ad_F w r pl a1 a2 a3 a4 a5) : wL_lawOf_110 post mc ms w m r kc ks 0 0 pl a1 a2 a3 a4 a5 :=
  br_c (fun h => ad_127 hp hf (Or.inr ⟨rfl, Or.inl h⟩)) (fun h => br_c (fun g => ad_127 hp hf (Or.inr ⟨rfl, Or.inr g⟩)) (fun g => ad_127 hp hf (Or.inl ⟨rfl, h, g⟩)))
theorem ad_97 {post : Int32 → St0 → Prop} {mc ms kc ks : Nat} {w m : Int32} (hp : post 1 ()) (hf : ad_F w (-1) pl a1 a2 a3 a4 a5) : wL_lawOf_97 post mc ms w m kc ks 0 0 pl a1 a2 a3 a4 a5 :=
  br_t rfl (ad_110 hp hf)
theorem ad_98 {post : Int32 → St0 → Prop} {mc ms kc ks : Nat} {w m : Int32} (hp : post 1 ()) (hf : ad_F w 0 pl a1 a2 a3 a4 a5) : wL_lawOf_98 post mc ms w m 1 kc ks 0 0 pl a1 a2 a3 a4 a5 :=
  br_f (by decide) (ad_110 hp hf)
end
theorem ad_lawOf {post : Int32 → St0 → Prop} (hp : post 1 ()) (w t m v : Int32) : wpL_lawOf post 102 1616 () w t m v := by
  refine ⟨by decide, by decide, 101, 1608, by decide, by decide, by decide, by decide, by decide, by decide, by decide, by decide, by decide, by decide, by decide, by decide, ?_⟩
  refine br_t rfl (br_t rfl (br_t rfl (br_t rfl (ad_weigh (br_t rfl (ad_total (br_t rfl ?_)))))))
  refine br_c (fun h => ad_97 hp (ad_Fneg h)) (fun h0 => br_c (fun h => ad_97 hp (ad_Fbig h0 h)) (fun h1 => ?_))
  obtain ⟨k, hk, e⟩ := nI_of2 (M := 8888) (n := 8888) (by decide) h0 (Int32.not_lt.mp h1)
  subst e
  have hk2 : k < 2 ^ 31 := by omega
  have d0 : nI k - nI k / 10 * 10 = 9 ↔ k % 10 = 9 := ad_d9 hk2
  have d1 : nI k / 10 - nI k / 10 / 10 * 10 = 9 ↔ k / 10 % 10 = 9 := by
    rw [ad_dv hk2]
    exact ad_d9 (by omega)
  have d2 : nI k / 100 - nI k / 100 / 10 * 10 = 9 ↔ k / 100 % 10 = 9 := by
    rw [ad_dh hk2]
    exact ad_d9 (by omega)
  refine ⟨by decide, br_c (fun z => ad_97 hp (ad_Fnine hk (ad_some (Or.inl (d0.mp z))))) (fun z0 => ⟨by decide, by decide, br_c (fun z => ad_97 hp (ad_Fnine hk (ad_some (Or.inr (Or.inl (d1.mp z)))))) (fun z1 => ⟨by decide, by decide, br_c (fun z => ad_97 hp (ad_Fnine hk (ad_some (Or.inr (Or.inr (d2.mp z)))))) (fun z2 => ?_)⟩)⟩)⟩
  exact ad_98 hp (ad_Fok hk (ad_none hk (fun z => z0 (d0.mpr z)) (fun z => z1 (d1.mpr z)) (fun z => z2 (d2.mpr z))))
theorem ad_cell {post : Int32 → Prop} {L : Nat} {xs : Nat → Int32} (hL : L ≤ 4) (j : Nat) (hj : j < 4) (H : ∀ r, post r) : wpL_cellAt post L xs () (nI j) := by
  refine br_c (fun _ => H 0) (fun h => ⟨?_, H _⟩)
  rcases Nat.lt_or_ge j L with g | g
  · exact vp_in_nI g (by omega)
  · exact absurd (nI_le g (by omega)) h
theorem i_vc (xs : Nat → Int32) (L : Nat) (hL : L ≤ 4) : wpL_law (fun r => r = 1) L xs :=
  ad_cell hL 0 (by decide) (fun _ => ad_cell hL 1 (by decide) (fun _ => ad_cell hL 2 (by decide) (fun _ => ad_cell hL 3 (by decide) (fun _ => ⟨102, 1616, by decide, by decide, ad_lawOf rfl _ _ _ _⟩))))
end
