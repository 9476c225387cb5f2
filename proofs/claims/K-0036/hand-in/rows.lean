section
/-! plain facts: sums of a histogram, shifts, the score's sign. (pk_shr, pk_shrN, pk_lT, pk_lDiv began as rows of the kit's rows to paste) -/
theorem pk_shr (a s : Int32) (k : Nat) (hs : (s.toBitVec.smod 32).toNat = k) : (a >>> s).toInt = a.toInt >>> k := by
  show (a.toBitVec.sshiftRight (s.toBitVec.smod 32).toNat).toInt = _
  rw [hs, BitVec.toInt_sshiftRight]
  rfl
theorem pk_shrN {n : Nat} (h : n < 2 ^ 31) (s : Int32) (k : Nat) (hs : (s.toBitVec.smod 32).toNat = k) : nI n >>> s = nI (n / 2 ^ k) := by
  apply Int32.toInt_inj.mp
  have h2 : n / 2 ^ k ≤ n := Nat.div_le_self _ _
  rw [pk_shr _ _ k hs, nI_toInt h, nI_toInt (by omega), Int.shiftRight_eq_div_pow]
  rfl
theorem pk_lT {n : Nat} (h : n < 2 ^ 63) : (lN n).toInt = (n : Int) := lg_ofNat_toInt h
theorem pk_lDiv {a b : Nat} (ha : a < 2 ^ 63) (h0 : 0 < b) (hb : b < 2 ^ 63) : lN a / lN b = lN (a / b) := by
  apply Int64.toInt_inj.mp
  rw [lg_ldiv_nonneg (by rw [pk_lT ha]; omega) (by rw [pk_lT hb]; omega), pk_lT ha, pk_lT hb, pk_lT (Nat.lt_of_le_of_lt (Nat.div_le_self a b) ha)]
  rfl
/-- the first n bins' sum -/
def os_sum (c : Nat → Nat) : Nat → Nat
  | 0 => 0
  | n + 1 => os_sum c n + c n
/-- one more sample in bin b -/
def os_inc (c : Nat → Nat) (b : Nat) : Nat → Nat := fun j => if j = b then c j + 1 else c j
theorem os_mono (c : Nat → Nat) (i : Nat) : ∀ d, os_sum c i ≤ os_sum c (i + d) := by
  intro d
  induction d with
  | zero => exact Nat.le_refl _
  | succ d ih => exact Nat.le_trans ih (Nat.le_add_right _ _)
theorem os_mono' (c : Nat → Nat) {i n : Nat} (h : i ≤ n) : os_sum c i ≤ os_sum c n := by
  have e : i + (n - i) = n := by omega
  have g := os_mono c i (n - i)
  rw [e] at g
  exact g
theorem os_inc_lo (c : Nat → Nat) (b : Nat) : ∀ n, n ≤ b → os_sum (os_inc c b) n = os_sum c n := by
  intro n
  induction n with
  | zero => intro _; rfl
  | succ n ih =>
    intro h
    have e : os_inc c b n = c n := if_neg (by omega)
    show os_sum (os_inc c b) n + os_inc c b n = os_sum c n + c n
    rw [ih (by omega), e]
theorem os_inc_hi (c : Nat → Nat) (b : Nat) : ∀ d, os_sum (os_inc c b) (b + 1 + d) = os_sum c (b + 1 + d) + 1 := by
  intro d
  induction d with
  | zero =>
    have e : os_inc c b b = c b + 1 := if_pos rfl
    show os_sum (os_inc c b) b + os_inc c b b = os_sum c b + c b + 1
    rw [os_inc_lo c b b (Nat.le_refl _), e]
    omega
  | succ d ih =>
    have e : os_inc c b (b + 1 + d) = c (b + 1 + d) := if_neg (by omega)
    show os_sum (os_inc c b) (b + 1 + d) + os_inc c b (b + 1 + d) = os_sum c (b + 1 + d) + c (b + 1 + d) + 1
    rw [ih, e]
    omega
theorem os_inc64 (c : Nat → Nat) {b : Nat} (h : b < 64) : os_sum (os_inc c b) 64 = os_sum c 64 + 1 := by
  have e : b + 1 + (63 - b) = 64 := by omega
  have g := os_inc_hi c b (63 - b)
  rw [e] at g
  exact g
theorem os_upd (c : Nat → Nat) (b : Nat) : upd (fun j => nI (c j)) b (nI (c b) + 1) = fun j => nI (os_inc c b j) := by
  funext j
  unfold upd os_inc
  by_cases h : j = b
  · rw [if_pos h, if_pos h, h, nI_1]
  · rw [if_neg h, if_neg h]
theorem os_neg (a b : Int64) : (a - b) * (a - b) = (b - a) * (b - a) := by grind
theorem os_sq {A B : Nat} (hA : A ≤ 66060288) (hB : B ≤ 66060288) : ∃ m : Nat, m < 2 ^ 63 ∧ (lN A - lN B) * (lN A - lN B) = lN m := by
  have one : ∀ A B : Nat, A ≤ 66060288 → B ≤ A → ∃ m : Nat, m < 2 ^ 63 ∧ (lN A - lN B) * (lN A - lN B) = lN m := by
    intro A B hA h
    refine ⟨(A - B) * (A - B), ?_, by rw [lN_sub h, lN_mul]⟩
    have h1 : A - B ≤ 66060288 := by omega
    exact Nat.lt_of_le_of_lt (Nat.mul_le_mul h1 h1) (by decide)
  rcases Nat.le_total B A with h | h
  · exact one A B hA h
  · rw [os_neg]
    exact one B A hB h
theorem os_den {w f : Nat} (hw : w ≤ 1024) (hf : f ≤ 1024) (w0 : 0 < w) (f0 : 0 < f) : 0 < w * f ∧ w * f < 2 ^ 31 :=
  ⟨Nat.mul_pos w0 f0, Nat.lt_of_le_of_lt (Nat.mul_le_mul hw hf) (by decide)⟩
theorem os_ne {n : Nat} (h0 : 0 < n) (h : n < 2 ^ 31) : ¬ lN n = 0 := fun e => by
  have g : n = 0 := (lN_eq h (by decide)).mp (show lN n = lN 0 from e)
  omega
theorem os_dne {w f : Nat} (hw : w ≤ 1024) (hf : f ≤ 1024) (w0 : 0 < w) (f0 : 0 < f) : ¬ lN w * lN f = 0 := by
  have g := os_den hw hf w0 f0
  rw [lN_mul]
  exact os_ne g.1 g.2
theorem os_m1 {q : Nat} (h : q < 2 ^ 63) : ¬ lN q ≤ -1 := by
  rw [Int64.le_iff_toInt_le, pk_lT h]
  have e : (-1 : Int64).toInt = -1 := by decide
  rw [e]
  omega
/-- the score is never negative: nothing overflows -/
theorem os_score {S s T w f : Nat} (hS : S ≤ 64512) (hs : s ≤ 64512) (hT : T ≤ 1024) (hw : w ≤ 1024) (hf : f ≤ 1024) (w0 : 0 < w) (f0 : 0 < f) :
    ¬ ((lN S * lN w - lN s * (nI T).toInt64) * (lN S * lN w - lN s * (nI T).toInt64)) / (lN w * lN f) ≤ -1 := by
  have g := os_den hw hf w0 f0
  have hA : S * w ≤ 66060288 := Nat.le_trans (Nat.mul_le_mul hS hw) (by decide)
  have hB : s * T ≤ 66060288 := Nat.le_trans (Nat.mul_le_mul hs hT) (by decide)
  obtain ⟨m, hm, em⟩ := os_sq hA hB
  rw [nI_l (by omega), lN_mul, lN_mul, lN_mul, em, pk_lDiv hm g.1 (by omega)]
  exact os_m1 (Nat.lt_of_le_of_lt (Nat.div_le_self _ _) hm)
end
section
/-- the two states are the same; the bins are naturals that sum to the total, which is at most the number of cells read; the sum is at most 63 a sample -/
def i_Rel (k : Nat) (u : SX) (v : SY) : Prop := v = u ∧ ∃ (c : Nat → Nat) (T S : Nat), u = (nI T, lN S, fun j => nI (c j)) ∧ os_sum c 64 = T ∧ T ≤ k ∧ S ≤ 63 * T
theorem i_up {k : Nat} {u : SX} {v : SY} (h : i_Rel k u v) : i_Rel (k + 2) u v := by
  obtain ⟨e, c, T, S, eu, h1, h2, h3⟩ := h
  exact ⟨e, c, T, S, eu, h1, by omega, h3⟩
theorem i_vc0 : wpX_init (fun u => wpY_init (fun v => i_Rel 0 u v)) :=
  show i_Rel 0 (0, 0, fun _ => 0) (0, 0, fun _ => 0) from
  ⟨rfl, fun _ => 0, 0, 0, rfl, by decide +kernel, Nat.le_refl _, Nat.le_refl _⟩
theorem i_vc_add {k : Nat} {u : SX} {v : SY} (I : i_Rel k u v) (hk : k + 2 ≤ 1024) (v1 : Int32) : wpX_add (fun r u' => wpY_add (fun r' v' => r' = r ∧ i_Rel (k + 2) u' v') v v1) u v1 := by
  have I2 := i_up I
  obtain ⟨rfl, c, T, S, rfl, h1, h2, h3⟩ := I
  by_cases h0 : v1 < 0
  · exact br_t h0 (br_t h0 ⟨rfl, I2⟩)
  · by_cases h255 : v1 ≤ 255
    · obtain ⟨g, hg, rfl⟩ := nI_of2 (n := 255) (by decide) h0 h255
      have eb : nI g >>> ((2 : Int32) &&& 31) = nI (g / 2 ^ 2) := pk_shrN (by omega) _ 2 (by decide)
      have hb : g / 2 ^ 2 < 64 := by omega
      generalize g / 2 ^ 2 = b at eb hb
      have hi : vp_in (nI b) 64 := vp_in_nI hb (by decide)
      have ec : (nI b).toNatClampNeg = b := nI_clamp (by omega)
      have ea : upd (fun j => nI (c j)) (nI b).toNatClampNeg ((fun j => nI (c j)) (nI b).toNatClampNeg + 1) = fun j => nI (os_inc c b j) := by
        rw [ec]; exact os_upd c b
      have es : lN S + (nI b).toInt64 = lN (S + b) := by rw [nI_l (by omega), lN_add]
      have er : (fun j => nI (c j)) (nI b).toNatClampNeg + 1 = (fun j => nI (os_inc c b j)) (nI b).toNatClampNeg := by
        rw [ec]
        show nI (c b) + 1 = nI (os_inc c b b)
        rw [nI_1, show os_inc c b b = c b + 1 from if_pos rfl]
      have R : i_Rel (k + 2) (nI (T + 1), lN (S + b), fun j => nI (os_inc c b j)) (nI (T + 1), lN (S + b), fun j => nI (os_inc c b j)) :=
        ⟨rfl, os_inc c b, T + 1, S + b, rfl, by rw [os_inc64 c hb, h1], by omega, by omega⟩
      exact br_f h0 (br_t h255 (nm_r eb ⟨hi, hi, nm_r ea (nm_r (nI_1 T) (nm_r es ⟨hi,
        br_f h0 (br_t h255 (nm_r eb (nm_r (nI_1 T) (nm_r es ⟨hi, hi, nm_r ea ⟨er, R⟩⟩))))⟩))⟩))
    · exact br_f h0 (br_f h255 (br_f h0 (br_f h255 ⟨rfl, I2⟩)))
theorem os_62 : nI 62 = 62 := by decide +kernel
theorem os_63 : nI 63 = 63 := by decide +kernel
/-- lockstep: one answer for both loops -/
theorem os_scan (c : Nat → Nat) (T S : Nat) (hc : os_sum c 64 = T) (hT : T ≤ 1024) (hS : S ≤ 63 * T) :
    ∀ d i w s : Nat, ∀ (b : Int32) (xs ys : Int64), i + d = 63 → w = os_sum c i → s ≤ 63 * w → ((b < 0 ∧ ys = -1) ∨ (¬ b < 0 ∧ xs = ys)) →
    ∃ r : Int32, (∀ post : Int32 → Prop, post r → wX_threshold_20 post (nI T).toInt64 (nI T) (lN S) (fun j => nI (c j)) (d + 1) (lN w) (lN s) b xs (nI i)) ∧
      (∀ post : Int32 → Prop, post r → wY_threshold_15 post (nI T) (lN S) (fun j => nI (c j)) (d + 1) b ys (lN w) (lN s) (nI i)) := by
  intro d
  induction d with
  | zero =>
    intro i w s b xs ys hi _ _ _
    have e : i = 63 := by omega
    subst e
    have hx : (62 : Int32) < nI 63 := by rw [← os_62]; exact nI_lt (by omega) (by omega)
    have hy : (63 : Int32) ≤ nI 63 := by rw [← os_63]; exact nI_le (by omega) (by omega)
    exact ⟨b, fun _ hp => br_t hx hp, fun _ hp => br_t hy hp⟩
  | succ d ih =>
    intro i w s b xs ys hi hw hs hb
    have hx : ¬ (62 : Int32) < nI i := by rw [← os_62]; exact nI_nlt (by omega) (by omega)
    have hy : ¬ (63 : Int32) ≤ nI i := by rw [← os_63]; exact nI_ge (by omega) (by omega)
    have hin : vp_in (nI i) 64 := vp_in_nI (by omega) (by omega)
    have hw' : w + c i = os_sum c (i + 1) := by rw [hw]; rfl
    have hle : w + c i ≤ T := by rw [hw', ← hc]; exact os_mono' c (by omega)
    have hs' : s + i * c i ≤ 63 * (w + c i) := by
      have g : i * c i ≤ 63 * c i := Nat.mul_le_mul_right _ (by omega)
      omega
    have e1 : ((fun j => nI (c j)) (nI i).toNatClampNeg).toInt64 = lN (c i) := by
      rw [nI_clamp (by omega)]
      exact nI_l (by omega)
    have e2 : lN w + lN (c i) = lN (w + c i) := lN_add _ _
    have e2' : lN w + ((fun j => nI (c j)) (nI i).toNatClampNeg).toInt64 = lN (w + c i) := by rw [e1, e2]
    have e3 : lN s + ((nI i).toInt64 * lN (c i)) = lN (s + i * c i) := by rw [nI_l (by omega), lN_mul, lN_add]
    have e3' : lN s + ((nI i).toInt64 * ((fun j => nI (c j)) (nI i).toNatClampNeg).toInt64) = lN (s + i * c i) := by rw [e1, e3]
    have e4 : (nI T).toInt64 - lN (w + c i) = lN (T - (w + c i)) := by rw [nI_l (by omega), lN_sub hle]
    have ih' := ih (i + 1) (w + c i) (s + i * c i)
    generalize w + c i = w2 at hw' hle hs' e2 e2' e4 ih'
    generalize s + i * c i = s2 at hs' e3 e3' ih'
    by_cases zw : w2 = 0
    · have z : lN w2 = 0 := by rw [zw]; rfl
      obtain ⟨r, hX, hY⟩ := ih' b xs ys (by omega) hw' hs' hb
      exact ⟨r, fun post hp => br_f hx ⟨hin, nm_r e1 (nm_r e2 (nm_r e3 (nm_r e4 (br_t z (nm_r (nI_1 i) (hX post hp))))))⟩,
        fun post hp => br_f hy ⟨hin, nm_r e2' ⟨hin, nm_r e3' (nm_r e4 (br_t z (nm_r (nI_1 i) (hY post hp))))⟩⟩⟩
    · have z : ¬ lN w2 = 0 := os_ne (by omega) (by omega)
      by_cases zf : T - w2 = 0
      · have y : lN (T - w2) = 0 := by rw [zf]; rfl
        obtain ⟨r, hX, hY⟩ := ih' b xs ys (by omega) hw' hs' hb
        exact ⟨r, fun post hp => br_f hx ⟨hin, nm_r e1 (nm_r e2 (nm_r e3 (nm_r e4 (br_f z (br_t y (nm_r (nI_1 i) (hX post hp)))))))⟩,
          fun post hp => br_f hy ⟨hin, nm_r e2' ⟨hin, nm_r e3' (nm_r e4 (br_f z (br_t y (nm_r (nI_1 i) (hY post hp)))))⟩⟩⟩
      · have y : ¬ lN (T - w2) = 0 := os_ne (by omega) (by omega)
        have hd : ¬ lN w2 * lN (T - w2) = 0 := os_dne (by omega) (by omega) (by omega) (by omega)
        have hq := os_score (S := S) (s := s2) (T := T) (w := w2) (f := T - w2) (by omega) (by omega) hT (by omega) (by omega) (by omega) (by omega)
        obtain ⟨q, eq⟩ : ∃ q : Int64, ((lN S * lN w2 - lN s2 * (nI T).toInt64) * (lN S * lN w2 - lN s2 * (nI T).toInt64)) / (lN w2 * lN (T - w2)) = q := ⟨_, rfl⟩
        rw [eq] at hq
        by_cases b0 : b < 0
        · have ey : ys = -1 := by
            rcases hb with h | h
            · exact h.2
            · exact absurd b0 h.1
          subst ey
          obtain ⟨r, hX, hY⟩ := ih' (nI i) q q (by omega) hw' hs' (Or.inr ⟨nI_pos (by omega), rfl⟩)
          exact ⟨r, fun post hp => br_f hx ⟨hin, nm_r e1 (nm_r e2 (nm_r e3 (nm_r e4 (br_f z (br_f y (nm_e (br_f hd (nm_e ⟨hd, nm_r eq (br_t b0 (nm_r (nI_1 i) (hX post hp)))⟩))))))))⟩,
            fun post hp => br_f hy ⟨hin, nm_r e2' ⟨hin, nm_r e3' (nm_r e4 (br_f z (br_f y (nm_e ⟨hd, nm_r eq (br_f hq (nm_r (nI_1 i) (hY post hp)))⟩))))⟩⟩⟩
        · have ey : xs = ys := by
            rcases hb with h | h
            · exact absurd h.1 b0
            · exact h.2
          subst ey
          by_cases le : q ≤ xs
          · obtain ⟨r, hX, hY⟩ := ih' b xs xs (by omega) hw' hs' (Or.inr ⟨b0, rfl⟩)
            exact ⟨r, fun post hp => br_f hx ⟨hin, nm_r e1 (nm_r e2 (nm_r e3 (nm_r e4 (br_f z (br_f y (nm_e (br_f hd (nm_e ⟨hd, nm_r eq (br_f b0 (br_t le (nm_r (nI_1 i) (hX post hp))))⟩))))))))⟩,
              fun post hp => br_f hy ⟨hin, nm_r e2' ⟨hin, nm_r e3' (nm_r e4 (br_f z (br_f y (nm_e ⟨hd, nm_r eq (br_t le (nm_r (nI_1 i) (hY post hp)))⟩))))⟩⟩⟩
          · obtain ⟨r, hX, hY⟩ := ih' (nI i) q q (by omega) hw' hs' (Or.inr ⟨nI_pos (by omega), rfl⟩)
            exact ⟨r, fun post hp => br_f hx ⟨hin, nm_r e1 (nm_r e2 (nm_r e3 (nm_r e4 (br_f z (br_f y (nm_e (br_f hd (nm_e ⟨hd, nm_r eq (br_f b0 (br_f le (nm_r (nI_1 i) (hX post hp))))⟩))))))))⟩,
              fun post hp => br_f hy ⟨hin, nm_r e2' ⟨hin, nm_r e3' (nm_r e4 (br_f z (br_f y (nm_e ⟨hd, nm_r eq (br_f le (nm_r (nI_1 i) (hY post hp)))⟩))))⟩⟩⟩
theorem i_vc_threshold {k : Nat} {u : SX} {v : SY} (I : i_Rel k u v) (hk : k + 2 ≤ 1024) : wpX_threshold (fun r => wpY_threshold (fun r' => r' = r ∧ i_Rel (k + 2) u v) v) u := by
  have I2 := i_up I
  obtain ⟨rfl, c, T, S, rfl, h1, h2, h3⟩ := I
  obtain ⟨r, hX, hY⟩ := os_scan c T S h1 (by omega) h3 63 0 0 0 (-1) 0 (-1) rfl rfl (Nat.zero_le _) (Or.inl ⟨by decide, rfl⟩)
  have z0 : lN 0 = 0 := rfl
  rw [z0, nI_0] at hX hY
  exact ⟨_, hX _ ⟨_, hY _ ⟨rfl, I2⟩⟩⟩
theorem i_vc_total {k : Nat} {u : SX} {v : SY} (I : i_Rel k u v) (hk : k + 2 ≤ 1024) : wpX_total (fun r => wpY_total (fun r' => r' = r ∧ i_Rel (k + 2) u v) v) u := by
  have I2 := i_up I
  obtain ⟨rfl, c, T, S, rfl, h1, h2, h3⟩ := I
  exact ⟨rfl, I2⟩
end
