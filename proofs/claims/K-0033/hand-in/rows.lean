section
/-! rows of kit/rows (PURE-ROWS, BITS), pasted: nI arithmetic, masks, unsigned shifts -/
theorem pk_sub {a b : Nat} (h : b ≤ a) : nI a - nI b = nI (a - b) := by
  obtain ⟨c, rfl⟩ : ∃ c, a = c + b := ⟨a - b, by omega⟩
  rw [← nI_add, Int32.add_sub_cancel, Nat.add_sub_cancel]
theorem pk_mul (a b : Nat) : nI a * nI b = nI (a * b) := (Int32.ofNat_mul a b).symm
theorem pk_div {a d : Nat} (ha : a < 2 ^ 31) (h0 : 0 < d) (hd : d < 2 ^ 31) : nI a / nI d = nI (a / d) := by
  apply Int32.toInt_inj.mp
  rw [lg_idiv_nonneg (by rw [nI_toInt ha]; omega) (by rw [nI_toInt hd]; omega), nI_toInt ha, nI_toInt hd, nI_toInt (Nat.lt_of_le_of_lt (Nat.div_le_self a d) ha)]
  first | rfl | exact (Int.natCast_ediv _ _).symm
theorem pk_tn {n : Nat} (h : n < 2 ^ 32) : (nI n).toBitVec.toNat = n := Nat.mod_eq_of_lt h
theorem pk_and (x : Int32) {m : Int32} (k : Nat) (hm : m.toBitVec.toNat = 2 ^ k - 1) : x &&& m = nI (x.toBitVec.toNat % 2 ^ k) := by
  apply Int32.toBitVec_inj.mp
  apply BitVec.eq_of_toNat_eq
  rw [Int32.toBitVec_and, BitVec.toNat_and, hm, Nat.and_two_pow_sub_one_eq_mod]
  show _ = (BitVec.ofNat 32 _).toNat
  rw [BitVec.toNat_ofNat]
  exact (Nat.mod_eq_of_lt (Nat.lt_of_le_of_lt (Nat.mod_le _ _) x.toBitVec.isLt)).symm
theorem pk_andN {n : Nat} (h : n < 2 ^ 32) {m : Int32} (k : Nat) (hm : m.toBitVec.toNat = 2 ^ k - 1) : nI n &&& m = nI (n % 2 ^ k) := by
  rw [pk_and _ k hm, pk_tn h]
theorem pk_ushr (x s : Int32) (k : Nat) (hs : ((s.toUInt32 &&& Int32.toUInt32 31).toBitVec % 32).toNat = k) : (x.toUInt32 >>> (s.toUInt32 &&& Int32.toUInt32 31)).toInt32.toBitVec.toNat = x.toBitVec.toNat / 2 ^ k := by
  have e : (x.toUInt32 >>> (s.toUInt32 &&& Int32.toUInt32 31)).toInt32.toBitVec = x.toBitVec >>> k := by
    rw [← hs]
    exact UInt32.toBitVec_shiftRight _ _
  rw [e, BitVec.toNat_ushiftRight, Nat.shiftRight_eq_div_pow]
theorem pk_ushrN {n : Nat} (hn : n < 2 ^ 32) (s : Int32) (k : Nat) (hs : ((s.toUInt32 &&& Int32.toUInt32 31).toBitVec % 32).toNat = k) : ((nI n).toUInt32 >>> (s.toUInt32 &&& Int32.toUInt32 31)).toInt32 = nI (n / 2 ^ k) := by
  apply Int32.toBitVec_inj.mp
  apply BitVec.eq_of_toNat_eq
  rw [pk_ushr _ s k hs, pk_tn hn, pk_tn (Nat.lt_of_le_of_lt (Nat.div_le_self _ _) hn)]
theorem sb_shl0 (x : Int32) : x <<< ((0 : Int32) &&& 31) = x := by
  rw [show ((0 : Int32) &&& 31) = 0 by decide]
  simp
theorem wb_of32 (x : Int32) : ∃ n, n < 2 ^ 32 ∧ x = nI n := ⟨x.toBitVec.toNat, x.toBitVec.isLt, Int32.toBitVec_inj.mp (by show _ = BitVec.ofNat 32 _; simp)⟩
end
section
/-! the plain law of one channel: the exact divide by 255, and what a channel's Int32 terms are worth -/
/-- the two roundings agree on every product of two bytes -/
theorem ao_blinn {p : Nat} (hp : p ≤ 65025) : (p + 128 + (p + 128) / 256) / 256 = (p + 127) / 255 := by omega
theorem ao_prod {d i : Nat} (hd : d < 256) (hi : i < 256) : d * i ≤ 65025 := Nat.mul_le_mul (show d ≤ 255 by omega) (show i ≤ 255 by omega)
/-- one channel of the result: source s over destination d, i the inverse alpha; saturated -/
def ao_ch (s d i : Nat) : Nat := if s + (d * i + 127) / 255 ≤ 255 then s + (d * i + 127) / 255 else 255
/-- a channel of a pixel, by the unsigned shift s whose count is k -/
theorem ao_f {P : Nat} (hP : P < 2 ^ 32) (s : Int32) (k : Nat) (hs : ((s.toUInt32 &&& Int32.toUInt32 31).toBitVec % 32).toNat = k) : ((nI P).toUInt32 >>> (s.toUInt32 &&& Int32.toUInt32 31)).toInt32 &&& 255 = nI (P / 2 ^ k % 256) := by
  rw [pk_ushrN hP s k hs, pk_andN (Nat.lt_of_le_of_lt (Nat.div_le_self _ _) hP) 8 (by decide)]
theorem ao_f24 {P : Nat} (hP : P < 2 ^ 32) : ((nI P).toUInt32 >>> ((24 : Int32).toUInt32 &&& Int32.toUInt32 31)).toInt32 = nI (P / 2 ^ 24 % 256) := by
  rw [pk_ushrN hP 24 24 (by decide)]
  exact congrArg nI (Nat.mod_eq_of_lt (by omega)).symm
theorem ao_f0 {P : Nat} (hP : P < 2 ^ 32) : nI P &&& 255 = nI (P / 2 ^ 0 % 256) := by
  rw [pk_andN hP 8 (by decide)]
  exact congrArg nI (by omega)
theorem ao_inv {q : Nat} (hq : q < 256) : (255 : Int32) - nI q = nI (255 - q) := pk_sub (a := 255) (by omega)
theorem ao_u (d i : Nat) : nI d * nI i + 128 = nI (d * i + 128) := by
  rw [pk_mul]
  exact nI_add _ 128
theorem ao_t {d i : Nat} (hd : d < 256) (hi : i < 256) : ((nI (d * i + 128) + ((nI (d * i + 128)).toUInt32 >>> ((8 : Int32).toUInt32 &&& Int32.toUInt32 31)).toInt32).toUInt32 >>> ((8 : Int32).toUInt32 &&& Int32.toUInt32 31)).toInt32 = nI ((d * i + 127) / 255) := by
  have hp := ao_prod hd hi
  generalize d * i = p at hp
  rw [pk_ushrN (by omega) 8 8 (by decide), nI_add, pk_ushrN (by omega) 8 8 (by decide)]
  exact congrArg nI (ao_blinn hp)
theorem ao_q {d i : Nat} (hd : d < 256) (hi : i < 256) : (nI d * nI i + 127) / 255 = nI ((d * i + 127) / 255) := by
  have hp := ao_prod hd hi
  rw [pk_mul]
  generalize d * i = p at hp
  rw [show nI p + 127 = nI (p + 127) from nI_add p 127]
  exact pk_div (d := 255) (by omega) (by decide) (by decide)
theorem ao_n {s d i : Nat} (hs : s < 256) (hd : d < 256) (hi : i < 256) : s + (d * i + 127) / 255 < 2 ^ 31 := by
  have hp := ao_prod hd hi
  omega
/-- the branch at 255, which both sides take alike -/
theorem ao_sat {Q : Int32 → Prop} {s d i : Nat} (hs : s < 256) (hd : d < 256) (hi : i < 256) (H : Q (nI (ao_ch s d i))) : (nI (s + (d * i + 127) / 255) ≤ 255 → Q (nI (s + (d * i + 127) / 255))) ∧ (¬ nI (s + (d * i + 127) / 255) ≤ 255 → Q 255) := by
  have hn := ao_n hs hd hi
  unfold ao_ch at H
  by_cases h : s + (d * i + 127) / 255 ≤ 255
  · rw [if_pos h] at H
    exact br_t (nI_le (b := 255) h (by decide)) H
  · rw [if_neg h] at H
    exact br_f (nI_ge (a := 255) (by omega) hn) H
end
section
/-! the walks of over: X's loop by its channels, Y's by its calls of chan -/
theorem ao_chan {post : Int32 → Prop} {s d i : Nat} (hs : s < 256) (hd : d < 256) (hi : i < 256) (H : post (nI (ao_ch s d i))) : wpY_chan post (nI s) (nI d) (nI i) := by
  refine And.intro (by decide) ?_
  refine nm_r (e' := nI (s + (d * i + 127) / 255)) (by rw [ao_q hd hi, nI_add]) ?_
  exact ao_sat (Q := post) hs hd hi H
theorem ao_xs {post : Int32 → SX → Prop} {x1 f_w : Int32} {a_row : Nat → Int32} {P D i : Nat} (hP : P < 2 ^ 32) (hD : D < 2 ^ 32) (hi : i < 256) (n : Nat) (x5 s s' : Int32) (k : Nat) (hs : ((s.toUInt32 &&& Int32.toUInt32 31).toBitVec % 32).toNat = k) (h0 : ¬ s < 0) (e8 : s + (-8) = s') (H : wX_over_42 post x1 (nI P) (nI D) (nI i) f_w a_row n (x5 ||| (nI (ao_ch (P / 2 ^ k % 256) (D / 2 ^ k % 256) i) <<< (s &&& 31))) s') : wX_over_42 post x1 (nI P) (nI D) (nI i) f_w a_row (n + 1) x5 s := by
  have hp : P / 2 ^ k % 256 < 256 := Nat.mod_lt _ (by decide)
  have hd : D / 2 ^ k % 256 < 256 := Nat.mod_lt _ (by decide)
  refine br_f h0 ?_
  refine nm_r (ao_f hP s k hs) ?_
  refine nm_r (ao_f hD s k hs) ?_
  refine nm_r (ao_u _ _) ?_
  refine nm_r (ao_t hd hi) ?_
  refine nm_r (nI_add _ _) ?_
  refine ao_sat (Q := fun z => wX_over_111 post (wX_over_42 post x1 (nI P) (nI D) (nI i) f_w a_row n) x1 (nI P) (nI D) (nI i) x5 s z f_w a_row) hp hd hi ?_
  intro y ey z ez
  rw [ey, ez, e8]
  exact H
/-- what over stores and answers -/
def ao_px (P D : Nat) : Int32 := (((nI (ao_ch (P / 2 ^ 24 % 256) (D / 2 ^ 24 % 256) (255 - P / 2 ^ 24 % 256)) <<< ((24 : Int32) &&& 31)) ||| (nI (ao_ch (P / 2 ^ 16 % 256) (D / 2 ^ 16 % 256) (255 - P / 2 ^ 24 % 256)) <<< ((16 : Int32) &&& 31))) ||| (nI (ao_ch (P / 2 ^ 8 % 256) (D / 2 ^ 8 % 256) (255 - P / 2 ^ 24 % 256)) <<< ((8 : Int32) &&& 31))) ||| nI (ao_ch (P / 2 ^ 0 % 256) (D / 2 ^ 0 % 256) (255 - P / 2 ^ 24 % 256))
theorem ao_x42 {post : Int32 → SX → Prop} {x1 f_w : Int32} {a_row : Nat → Int32} {P D : Nat} (hP : P < 2 ^ 32) (hD : D < 2 ^ 32) (hin : vp_in x1 4) (H : post (ao_px P D) (f_w, upd a_row x1.toNatClampNeg (ao_px P D))) : wX_over_42 post x1 (nI P) (nI D) (nI (255 - P / 2 ^ 24 % 256)) f_w a_row 5 0 24 := by
  have hi : 255 - P / 2 ^ 24 % 256 < 256 := by omega
  refine ao_xs hP hD hi 4 0 24 16 24 (by decide) (by decide) (by decide) ?_
  refine ao_xs hP hD hi 3 _ 16 8 16 (by decide) (by decide) (by decide) ?_
  refine ao_xs hP hD hi 2 _ 8 0 8 (by decide) (by decide) (by decide) ?_
  refine ao_xs hP hD hi 1 _ 0 (-8) 0 (by decide) (by decide) (by decide) ?_
  rw [Int32.zero_or, sb_shl0]
  refine br_t (by decide) (And.intro hin ?_)
  intro b eb
  rw [eb]
  exact H
theorem ao_wX {post : Int32 → SX → Prop} {f_w : Int32} {a_row : Nat → Int32} {p0 : Int32} {P D : Nat} (hP : P < 2 ^ 32) (hD : D < 2 ^ 32) (h0 : ¬ p0 < 0) (h1 : p0 < f_w) (hin : vp_in p0 4) (eD : a_row p0.toNatClampNeg = nI D) (H : post (ao_px P D) (f_w, upd a_row p0.toNatClampNeg (ao_px P D))) : wpX_over post (f_w, a_row) p0 (nI P) := by
  refine br_f h0 (br_t h1 (And.intro hin ?_))
  refine nm_r eD ?_
  refine nm_r (e' := nI (255 - P / 2 ^ 24 % 256)) (by rw [ao_f hP 24 24 (by decide)]; exact ao_inv (Nat.mod_lt _ (by decide))) ?_
  exact ⟨5, ao_x42 hP hD hin H⟩
theorem ao_wY {post : Int32 → SY → Prop} {f_w : Int32} {a_row : Nat → Int32} {p0 : Int32} {P D : Nat} (hP : P < 2 ^ 32) (hD : D < 2 ^ 32) (h0 : ¬ p0 < 0) (h1 : p0 < f_w) (hin : vp_in p0 4) (eD : a_row p0.toNatClampNeg = nI D) (H : post (ao_px P D) (f_w, upd a_row p0.toNatClampNeg (ao_px P D))) : wpY_over post (f_w, a_row) p0 (nI P) := by
  have hi : 255 - P / 2 ^ 24 % 256 < 256 := by omega
  have hm : ∀ q : Nat, q % 256 < 256 := fun q => Nat.mod_lt q (by decide)
  refine br_f h0 (br_t h1 (And.intro hin ?_))
  refine nm_r eD ?_
  refine nm_r (e' := nI (255 - P / 2 ^ 24 % 256)) (by rw [ao_f24 hP]; exact ao_inv (hm _)) ?_
  rw [ao_f24 hP, ao_f24 hD, ao_f hP 16 16 (by decide), ao_f hD 16 16 (by decide), ao_f hP 8 8 (by decide), ao_f hD 8 8 (by decide), ao_f0 hP, ao_f0 hD]
  refine ao_chan (hm _) (hm _) hi ?_
  refine ao_chan (hm _) (hm _) hi ?_
  refine ao_chan (hm _) (hm _) hi ?_
  refine ao_chan (hm _) (hm _) hi ?_
  intro x ex
  refine And.intro hin ?_
  intro b eb
  rw [eb, ex]
  exact H
end
section
/-- both objects hold the same width, at most 4, and the same row -/
def i_Rel (_ : Nat) (u : SX) (v : SY) : Prop := ∃ (w : Nat) (a : Nat → Int32), w ≤ 4 ∧ u = (nI w, a) ∧ v = (nI w, a)
theorem ao_mk {k w : Nat} {a : Nat → Int32} (hw : w ≤ 4) : i_Rel k (nI w, a) (nI w, a) := Exists.intro w (Exists.intro a (And.intro hw (And.intro rfl rfl)))
theorem ao_rel {k : Nat} {x : Int32} {a : Nat → Int32} (h0 : ¬ x < 0) (h4 : x ≤ 4) : i_Rel k (x, a) (x, a) := by
  obtain ⟨j, hj, rfl⟩ := nI_of2 (M := 4) (n := 4) (by decide) h0 h4
  exact ao_mk hj
theorem ao_in {w : Nat} {x : Int32} (hw : w ≤ 4) (h0 : ¬ x < 0) (h1 : x < nI w) : vp_in x 4 := by
  obtain ⟨j, hj, rfl⟩ := nI_of h0
  rw [nI_ltI hj (by omega)] at h1
  exact vp_in_nI (by omega) (by decide)
theorem i_up {k : Nat} {u : SX} {v : SY} (h : i_Rel k u v) : i_Rel (k + 3) u v := h
theorem i_vc0 (k0 : Int32) : wpX_init (fun u => wpY_init (fun v => i_Rel 1 u v) k0) k0 := by
  by_cases h1 : 1 ≤ k0
  · have h0 : ¬ k0 < 0 := Int32.not_lt.mpr (Int32.le_trans (by decide) h1)
    by_cases h4 : k0 ≤ 4
    · exact br_t h1 (br_t h4 (br_t h1 (br_t h4 (ao_rel h0 h4))))
    · exact br_t h1 (br_f h4 (br_t h1 (br_f h4 (ao_rel (by decide) (by decide)))))
  · exact br_f h1 (br_t (by decide) (br_f h1 (br_t (by decide) (ao_rel (by decide) (by decide)))))
theorem i_vc_width {k : Nat} {u : SX} {v : SY} (I : i_Rel k u v) (hk : k + 3 ≤ 1537) : wpX_width (fun r => wpY_width (fun r' => r' = r ∧ i_Rel (k + 3) u v) v) u := by
  obtain ⟨w, a, hw, rfl, rfl⟩ := I
  exact And.intro rfl (ao_mk hw)
theorem i_vc_get {k : Nat} {u : SX} {v : SY} (I : i_Rel k u v) (hk : k + 3 ≤ 1537) (v1 : Int32) : wpX_get (fun r => wpY_get (fun r' => r' = r ∧ i_Rel (k + 3) u v) v v1) u v1 := by
  obtain ⟨w, a, hw, rfl, rfl⟩ := I
  by_cases h0 : v1 < 0
  · exact br_t h0 (br_t h0 ⟨rfl, ao_mk hw⟩)
  · by_cases h1 : v1 < nI w
    · have hi := ao_in hw h0 h1
      exact br_f h0 (br_t h1 ⟨hi, br_f h0 (br_t h1 ⟨hi, rfl, ao_mk hw⟩)⟩)
    · exact br_f h0 (br_f h1 (br_f h0 (br_f h1 ⟨rfl, ao_mk hw⟩)))
theorem ao_clear (c : Int32) {w : Nat} (hw : w ≤ 4) : ∀ (d j : Nat) (a : Nat → Int32), j + d = w → ∃ a' : Nat → Int32, (∀ post : Int32 → SX → Prop, post (nI w) (nI w, a') → wX_clear_2 post c (nI w) (d + 1) (nI j) a) ∧ (∀ post : Int32 → SY → Prop, post (nI w) (nI w, a') → wY_clear_2 post c (nI w) (d + 1) (nI j) a) := by
  intro d
  induction d with
  | zero =>
    intro j a hj
    have h : nI w ≤ nI j := nI_le (by omega) (by omega)
    exact ⟨a, fun _ hp => br_t h hp, fun _ hp => br_t h hp⟩
  | succ d ih =>
    intro j a hj
    have h : ¬ nI w ≤ nI j := nI_ge (by omega) (by omega)
    have hi : vp_in (nI j) 4 := vp_in_nI (by omega) (by decide)
    obtain ⟨a', hX, hY⟩ := ih (j + 1) (upd a (nI j).toNatClampNeg c) (by omega)
    refine ⟨a', fun post hp => br_f h ⟨hi, fun b eb y ey => ?_⟩, fun post hp => br_f h ⟨hi, fun b eb y ey => ?_⟩⟩
    · rw [eb, ey, nI_1]; exact hX post hp
    · rw [eb, ey, nI_1]; exact hY post hp
theorem i_vc_clear {k : Nat} {u : SX} {v : SY} (I : i_Rel k u v) (hk : k + 3 ≤ 1537) (v1 : Int32) : wpX_clear (fun r u' => wpY_clear (fun r' v' => r' = r ∧ i_Rel (k + 3) u' v') v v1) u v1 := by
  obtain ⟨w, a, hw, rfl, rfl⟩ := I
  obtain ⟨a', hX, hY⟩ := ao_clear v1 hw w 0 a (by omega)
  rw [nI_0] at hX hY
  exact Exists.intro (w + 1) (hX _ (Exists.intro (w + 1) (hY _ ⟨rfl, ao_mk hw⟩)))
theorem i_vc_over {k : Nat} {u : SX} {v : SY} (I : i_Rel k u v) (hk : k + 3 ≤ 1537) (v1 : Int32) (v2 : Int32) : wpX_over (fun r u' => wpY_over (fun r' v' => r' = r ∧ i_Rel (k + 3) u' v') v v1 v2) u v1 v2 := by
  obtain ⟨w, a, hw, rfl, rfl⟩ := I
  by_cases h0 : v1 < 0
  · exact br_t h0 (br_t h0 ⟨rfl, ao_mk hw⟩)
  · by_cases h1 : v1 < nI w
    · obtain ⟨P, hP, rfl⟩ := wb_of32 v2
      obtain ⟨D, hD, eD⟩ := wb_of32 (a v1.toNatClampNeg)
      have hi := ao_in hw h0 h1
      exact ao_wX hP hD h0 h1 hi eD (ao_wY hP hD h0 h1 hi eD ⟨rfl, ao_mk hw⟩)
    · exact br_f h0 (br_f h1 (br_f h0 (br_f h1 ⟨rfl, ao_mk hw⟩)))
end
