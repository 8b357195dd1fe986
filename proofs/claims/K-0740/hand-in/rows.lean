section
/-! pasted rows of BITS.to-paste (starting text): Int32 by its bits -/
def bt (x : Int32) (i : Nat) : Bool := x.toBitVec.getLsbD i
theorem b_ext {x y : Int32} (h : ∀ i, i < 32 → bt x i = bt y i) : x = y := Int32.toBitVec_inj.mp (BitVec.eq_of_getLsbD_eq (fun i hi => h i hi))
theorem b_or (x y : Int32) (i : Nat) : bt (x ||| y) i = (bt x i || bt y i) := by unfold bt; rw [Int32.toBitVec_or, BitVec.getLsbD_or]
theorem b_and (x y : Int32) (i : Nat) : bt (x &&& y) i = (bt x i && bt y i) := by unfold bt; rw [Int32.toBitVec_and, BitVec.getLsbD_and]
theorem b_xor (x y : Int32) (i : Nat) : bt (x ^^^ y) i = (bt x i ^^ bt y i) := by unfold bt; rw [Int32.toBitVec_xor, BitVec.getLsbD_xor]
theorem b_big {x : Int32} {i : Nat} (h : 32 ≤ i) : bt x i = false := BitVec.getLsbD_of_ge _ _ h
theorem b_255 (i : Nat) : bt 255 i = decide (i < 8) := by
  rcases Nat.lt_or_ge i 32 with h | h
  · exact (by decide +kernel : ∀ i, i < 32 → bt 255 i = decide (i < 8)) i h
  · rw [b_big h, decide_eq_false (by omega)]
theorem b_m1 : ∀ i, i < 32 → bt (-1) i = true := by decide +kernel
theorem s_l : ∀ n, n < 32 → ((nI n &&& 31).toBitVec.smod 32).toNat = n := by decide +kernel
theorem b_shl (n : Nat) (hn : n < 32) (x : Int32) {i : Nat} (hi : i < 32) : bt (x <<< (nI n &&& 31)) i = (decide (n ≤ i) && bt x (i - n)) := by
  unfold bt
  rw [Int32.toBitVec_shiftLeft]
  show (x.toBitVec <<< ((nI n &&& 31).toBitVec.smod 32).toNat).getLsbD i = _
  rw [s_l n hn, BitVec.getLsbD_shiftLeft]
  rcases Nat.lt_or_ge i n with h | h
  · simp [h, Nat.not_le.mpr h]
  · simp [hi, h, Nat.not_lt.mpr h]
theorem b_sshr (n : Nat) (hn : n < 32) (x : Int32) {i : Nat} (hi : i < 32) : bt (x >>> (nI n &&& 31)) i = if n + i < 32 then bt x (n + i) else bt x 31 := by
  unfold bt
  rw [Int32.toBitVec_shiftRight]
  show (x.toBitVec.sshiftRight ((nI n &&& 31).toBitVec.smod 32).toNat).getLsbD i = _
  rw [s_l n hn, BitVec.getLsbD_sshiftRight, BitVec.msb_eq_getLsbD_last]
  simp [hi]
theorem bp_b (x : Int32) : x.toInt8.toInt32 &&& 255 = x &&& 255 := by
  apply Int32.toBitVec_inj.mp
  rw [Int32.toBitVec_and, Int32.toBitVec_and, Int8.toBitVec_toInt32, Int32.toBitVec_toInt8]
  apply BitVec.eq_of_getLsbD_eq
  intro i hi
  rw [BitVec.getLsbD_and, BitVec.getLsbD_and]
  have hm : ∀ i < 32, 8 ≤ i → (255 : Int32).toBitVec.getLsbD i = false := by decide
  rcases Nat.lt_or_ge i 8 with z | z
  · rw [BitVec.getLsbD_signExtend, BitVec.getLsbD_signExtend, if_pos z, if_pos hi]
    simp only [z, hi, decide_true, Bool.true_and]
  · rw [hm i hi z]; simp
/-! own rows: the two bits of a page inside its byte -/
theorem vm_b3 (i : Nat) : bt 3 i = decide (i < 2) := by
  rcases Nat.lt_or_ge i 32 with h | h
  · exact (by decide +kernel : ∀ i, i < 32 → bt 3 i = decide (i < 2)) i h
  · rw [b_big h, decide_eq_false (by omega)]
/-- the two bits at shift s of the byte c -/
def vm_g (c s : Int32) : Int32 := ((c &&& 255) >>> (s &&& 31)) &&& 3
theorem vm_gb (c : Int32) (t : Nat) (ht : t < 4) {i : Nat} (hi : i < 32) : bt (vm_g c (nI (2 * t))) i = (decide (i < 2) && bt c (2 * t + i)) := by
  unfold vm_g
  rw [b_and, vm_b3, b_sshr (2 * t) (by omega) _ hi]
  by_cases h : i < 2
  · rw [if_pos (by omega), b_and, b_255, decide_eq_true (show 2 * t + i < 8 by omega), decide_eq_true h]
    simp only [Bool.and_true, Bool.true_and]
  · rw [decide_eq_false h, Bool.and_false, Bool.false_and]
/-- what a byte store keeps of the low eight bits: all of them -/
theorem vm_st (x : Int32) {i : Nat} (hi : i < 8) : bt (vp_nar .byte x.toInt8.toInt32) i = bt x i := by
  have e : vp_nar .byte x.toInt8.toInt32 &&& 255 = x &&& 255 := by rw [vp_nar_byte, bp_b, bp_b]
  have h : bt (vp_nar .byte x.toInt8.toInt32 &&& 255) i = bt (x &&& 255) i := by rw [e]
  rw [b_and, b_and, b_255, decide_eq_true hi, Bool.and_true, Bool.and_true] at h
  exact h
theorem vm_q {q : Nat} (hq : q < 4) {i : Nat} (hi : 2 ≤ i) : bt (nI q) i = false := by
  have e : nI q &&& 3 = nI q := (by decide +kernel : ∀ q, q < 4 → nI q &&& 3 = nI q) q hq
  rw [← e, b_and, vm_b3, decide_eq_false (by omega), Bool.and_false]
/-- the byte c with the bits b set at shift s -/
def vm_or (c s b : Int32) : Int32 := vp_nar .byte (((c &&& 255) ||| (b <<< (s &&& 31))).toInt8.toInt32)
theorem vm_orb (c : Int32) {t q i : Nat} (ht : t < 4) (hi : i < 8) : bt (vm_or c (nI (2 * t)) (nI q)) i = (bt c i || (decide (2 * t ≤ i) && bt (nI q) (i - 2 * t))) := by
  unfold vm_or
  rw [vm_st _ hi, b_or, b_and, b_255, b_shl (2 * t) (by omega) _ (by omega), decide_eq_true hi, Bool.and_true]
theorem vm_or_s (c : Int32) {t q : Nat} (ht : t < 4) (hq : q < 4) : vm_g (vm_or c (nI (2 * t)) (nI q)) (nI (2 * t)) = vm_g c (nI (2 * t)) ||| nI q := by
  apply b_ext
  intro i hi
  rw [vm_gb _ _ ht hi, b_or, vm_gb _ _ ht hi]
  by_cases h : i < 2
  · rw [vm_orb _ ht (by omega), decide_eq_true (show 2 * t ≤ 2 * t + i by omega), Nat.add_sub_cancel_left, decide_eq_true h]
    simp only [Bool.true_and]
  · rw [vm_q hq (by omega), decide_eq_false h]
    simp only [Bool.false_and, Bool.or_false]
theorem vm_or_n (c : Int32) {t w q : Nat} (ht : t < 4) (hw : w < 4) (hq : q < 4) (hn : w ≠ t) : vm_g (vm_or c (nI (2 * t)) (nI q)) (nI (2 * w)) = vm_g c (nI (2 * w)) := by
  apply b_ext
  intro i hi
  rw [vm_gb _ _ hw hi, vm_gb _ _ hw hi]
  by_cases h : i < 2
  · have z : (decide (2 * t ≤ 2 * w + i) && bt (nI q) (2 * w + i - 2 * t)) = false := by
      rcases Nat.lt_or_ge (2 * w + i) (2 * t) with a | a
      · rw [decide_eq_false (by omega), Bool.false_and]
      · rw [vm_q hq (by omega), Bool.and_false]
    rw [vm_orb _ ht (by omega), z, Bool.or_false]
  · rw [decide_eq_false h, Bool.false_and, Bool.false_and]
/-- the byte c with both bits at shift s cleared -/
def vm_cl (c s : Int32) : Int32 := vp_nar .byte (((c &&& 255) &&& (((3 : Int32) <<< (s &&& 31)) ^^^ (-1))).toInt8.toInt32)
theorem vm_clb (c : Int32) {t i : Nat} (ht : t < 4) (hi : i < 8) : bt (vm_cl c (nI (2 * t))) i = (bt c i && !(decide (2 * t ≤ i) && decide (i - 2 * t < 2))) := by
  unfold vm_cl
  rw [vm_st _ hi, b_and, b_and, b_255, b_xor, b_shl (2 * t) (by omega) _ (by omega), b_m1 i (by omega), vm_b3, decide_eq_true hi, Bool.and_true, Bool.xor_true]
theorem vm_cl_s (c : Int32) {t : Nat} (ht : t < 4) : vm_g (vm_cl c (nI (2 * t))) (nI (2 * t)) = 0 := by
  apply b_ext
  intro i hi
  have z : bt 0 i = false := BitVec.getLsbD_zero
  rw [vm_gb _ _ ht hi, z]
  by_cases h : i < 2
  · rw [vm_clb _ ht (by omega), decide_eq_true (show 2 * t ≤ 2 * t + i by omega), Nat.add_sub_cancel_left, decide_eq_true h]
    simp only [Bool.true_and, Bool.not_true, Bool.and_false]
  · rw [decide_eq_false h, Bool.false_and]
theorem vm_cl_n (c : Int32) {t w : Nat} (ht : t < 4) (hw : w < 4) (hn : w ≠ t) : vm_g (vm_cl c (nI (2 * t))) (nI (2 * w)) = vm_g c (nI (2 * w)) := by
  apply b_ext
  intro i hi
  rw [vm_gb _ _ hw hi, vm_gb _ _ hw hi]
  by_cases h : i < 2
  · have z : (decide (2 * t ≤ 2 * w + i) && decide (2 * w + i - 2 * t < 2)) = false := by
      rcases Nat.lt_or_ge (2 * w + i) (2 * t) with a | a
      · rw [decide_eq_false (by omega), Bool.false_and]
      · rw [decide_eq_false (show ¬ 2 * w + i - 2 * t < 2 by omega), Bool.and_false]
    rw [vm_clb _ ht (by omega), z, Bool.not_false, Bool.and_true]
  · rw [decide_eq_false h, Bool.false_and, Bool.false_and]
theorem vm_g4 (c : Int32) {t : Nat} (ht : t < 4) : ∃ w : Nat, w < 4 ∧ vm_g c (nI (2 * t)) = nI w := by
  have h : (vm_g c (nI (2 * t))).toBitVec.toNat < 4 := by
    unfold vm_g
    rw [Int32.toBitVec_and, BitVec.toNat_and]
    exact Nat.lt_of_le_of_lt Nat.and_le_right (by decide)
  refine ⟨(vm_g c (nI (2 * t))).toBitVec.toNat, h, Int32.toBitVec_inj.mp ?_⟩
  show _ = BitVec.ofNat 32 _
  simp
theorem vm_i16 : ∀ w, w < 4 → ∀ q, q < 4 → (nI w ||| nI q).toInt16.toInt32 = nI w ||| nI q := by decide +kernel
theorem vm_i16n : ∀ w, w < 4 → ∀ q, q < 4 → vp_nar .short (nI w ||| nI q) = nI w ||| nI q := by
  intro w hw q hq
  rw [vp_nar_short, vm_i16 w hw q hq]
theorem vm_s0 : vp_nar .short 0 = 0 := by rw [vp_nar_short]; decide
theorem vm_ix : ∀ j, j < 12 → nI j >>> ((2 : Int32) &&& 31) = nI (j / 4) ∧ (nI j &&& 3) * 2 = nI (2 * (j % 4)) := by decide +kernel
end
section
/-- page by page: the reference's cell is the two bits in the component's byte -/
def vm_R (a b : Nat → Int32) : Prop := ∀ j, j < 12 → b j = vm_g (a (j / 4)) (nI (2 * (j % 4)))
theorem vm_set {a b : Nat → Int32} (R : vm_R a b) {p : Nat} (hp : p < 12) {x y : Int32} (hs : y = vm_g x (nI (2 * (p % 4)))) (hn : ∀ t, t < 4 → t ≠ p % 4 → vm_g x (nI (2 * t)) = vm_g (a (p / 4)) (nI (2 * t))) : vm_R (upd a (p / 4) x) (upd b p y) := by
  intro j hj
  show (if j = p then y else b j) = vm_g (if j / 4 = p / 4 then x else a (j / 4)) _
  by_cases e : j = p
  · subst e
    rw [if_pos rfl, if_pos rfl]
    exact hs
  · rw [if_neg e]
    by_cases f : j / 4 = p / 4
    · rw [if_pos f, hn _ (by omega) (by omega), ← f]
      exact R j hj
    · rw [if_neg f]
      exact R j hj
def i_Rel (_ : Nat) (u : SX) (v : SY) : Prop := ∃ (m : Nat) (a b : Nat → Int32), u = (nI m, a) ∧ v = (nI m, b) ∧ m ≤ 12 ∧ vm_R a b
theorem i_up {k : Nat} {u : SX} {v : SY} (h : i_Rel k u v) : i_Rel (k + 3) u v := h
theorem vm_R0 : vm_R (fun _ => 0) (fun _ => 0) := by
  intro j hj
  exact (by decide +kernel : ∀ j, j < 12 → (0 : Int32) = vm_g 0 (nI (2 * (j % 4)))) j hj
theorem vm_12 : nI 12 = 12 := by decide +kernel
theorem i_vc0 (k0 : Int32) : wpX_init (fun u => wpY_init (fun v => i_Rel 1 u v) k0) k0 := by
  by_cases h1 : 1 ≤ k0
  · by_cases h2 : k0 ≤ 12
    · have h0 : ¬ k0 < 0 := by
        rw [Int32.not_lt]
        exact Int32.le_trans (by decide) h1
      obtain ⟨j, hj, rfl⟩ := nI_of2 (M := 12) (n := 12) (by decide) h0 h2
      exact br_t h1 (br_t h2 (br_t h1 (br_t h2 ⟨j, _, _, rfl, rfl, hj, vm_R0⟩)))
    · exact br_t h1 (br_f h2 (br_t h1 (br_f h2 ⟨12, _, _, by rw [vm_12], by rw [vm_12], Nat.le_refl _, vm_R0⟩)))
  · have h3 : (1 : Int32) ≤ 12 := by decide
    exact br_f h1 (br_t h3 (br_f h1 ⟨1, _, _, rfl, rfl, by decide, vm_R0⟩))
theorem i_vc_pages {k : Nat} {u : SX} {v : SY} (I : i_Rel k u v) (hk : k + 3 ≤ 1537) : wpX_pages (fun r => wpY_pages (fun r' => r' = r ∧ i_Rel (k + 3) u v) v) u := by
  have K := I
  obtain ⟨m, a, b, rfl, rfl, hm, R⟩ := I
  exact ⟨rfl, K⟩
/-! mark -/
theorem vm_markX (post : Int32 → SX → Prop) {m p q : Nat} {a : Nat → Int32} (hm : m ≤ 12) (hp : p < m) (hq : q < 4)
    (h2 : vm_g (a (p / 4)) (nI (2 * (p % 4))) ||| nI q = 2 → post (-3) (nI m, a))
    (hn : ¬ vm_g (a (p / 4)) (nI (2 * (p % 4))) ||| nI q = 2 → post (vm_g (a (p / 4)) (nI (2 * (p % 4))) ||| nI q) (nI m, upd a (p / 4) (vm_or (a (p / 4)) (nI (2 * (p % 4))) (nI q)))) :
    wpX_mark post (nI m, a) (nI p) (nI q) := by
  have h0 : ¬ nI p < 0 := nI_pos (by omega)
  have h1 : nI p < nI m := nI_lt hp (by omega)
  have g0 : ¬ nI q < 0 := nI_pos (by omega)
  have g1 : nI q ≤ 3 := nI_le (b := 3) (by omega) (by decide)
  have hi : vp_in (nI (p / 4)) 3 := vp_in_nI (by omega) (by decide)
  have hc : (nI (p / 4)).toNatClampNeg = p / 4 := nI_clamp (by omega)
  refine br_f h0 (br_t h1 (br_f g0 (br_t g1 (nm_r (vm_ix p (by omega)).1 (nm_r (vm_ix p (by omega)).2 ⟨hi, ?_⟩)))))
  rw [hc]
  refine nm_e (nm_e (br_c h2 fun z => ⟨hi, hi, nm_e (hn z)⟩))
theorem vm_markY (post : Int32 → SY → Prop) {m p q w : Nat} {b : Nat → Int32} (hm : m ≤ 12) (hp : p < m) (hq : q < 4) (hw : w < 4) (hb : b p = nI w)
    (h2 : nI w ||| nI q = 2 → post (-3) (nI m, b))
    (hn : ¬ nI w ||| nI q = 2 → post (nI w ||| nI q) (nI m, upd b p (nI w ||| nI q))) :
    wpY_mark post (nI m, b) (nI p) (nI q) := by
  have h0 : ¬ nI p < 0 := nI_pos (by omega)
  have h1 : nI p < nI m := nI_lt hp (by omega)
  have g0 : ¬ nI q < 0 := nI_pos (by omega)
  have g1 : nI q ≤ 3 := nI_le (b := 3) (by omega) (by decide)
  have hi : vp_in (nI p) 12 := vp_in_nI (by omega) (by decide)
  have hc : (nI p).toNatClampNeg = p := nI_clamp (by omega)
  refine br_f h0 (br_t h1 (br_f g0 (br_t g1 ⟨hi, ?_⟩)))
  rw [hc, hb, vm_i16 w hw q hq, vm_i16n w hw q hq]
  exact br_c h2 fun z => ⟨hi, hi, nm_e (hn z)⟩
theorem i_vc_mark {k : Nat} {u : SX} {v : SY} (I : i_Rel k u v) (hk : k + 3 ≤ 1537) (v1 : Int32) (v2 : Int32) : wpX_mark (fun r u' => wpY_mark (fun r' v' => r' = r ∧ i_Rel (k + 3) u' v') v v1 v2) u v1 v2 := by
  have K : i_Rel (k + 3) u v := I
  obtain ⟨m, a, b, rfl, rfl, hm, R⟩ := I
  by_cases h0 : v1 < 0
  · exact br_t h0 (br_t h0 ⟨rfl, K⟩)
  by_cases h1 : v1 < nI m
  · by_cases g0 : v2 < 0
    · exact br_f h0 (br_t h1 (br_t g0 (br_f h0 (br_t h1 (br_t g0 ⟨rfl, K⟩)))))
    by_cases g1 : v2 ≤ 3
    · obtain ⟨q, hq, rfl⟩ := nI_of2 (M := 3) (n := 3) (by decide) g0 g1
      obtain ⟨p, hp, rfl⟩ := nI_of h0
      rw [nI_ltI hp (by omega)] at h1
      obtain ⟨w, hw, ew⟩ := vm_g4 (a (p / 4)) (t := p % 4) (by omega)
      have hb : b p = nI w := (R p (by omega)).trans ew
      refine vm_markX _ hm h1 (by omega) (fun z => ?_) (fun z => ?_)
      · rw [ew] at z
        exact vm_markY _ hm h1 (by omega) hw hb (fun _ => ⟨rfl, K⟩) (fun y => absurd z y)
      · rw [ew] at z ⊢
        refine vm_markY _ hm h1 (by omega) hw hb (fun y => absurd y z) (fun _ => ⟨rfl, m, _, _, rfl, rfl, hm, ?_⟩)
        refine vm_set R (by omega) ?_ (fun t ht hn => ?_)
        · rw [← ew]
          exact (vm_or_s _ (by omega) (by omega)).symm
        · exact vm_or_n _ (by omega) ht (by omega) hn
    · exact br_f h0 (br_t h1 (br_f g0 (br_f g1 (br_f h0 (br_t h1 (br_f g0 (br_f g1 ⟨rfl, K⟩)))))))
  · exact br_f h0 (br_f h1 (br_f h0 (br_f h1 ⟨rfl, K⟩)))
/-! clear -/
theorem i_vc_clear {k : Nat} {u : SX} {v : SY} (I : i_Rel k u v) (hk : k + 3 ≤ 1537) (v1 : Int32) : wpX_clear (fun r u' => wpY_clear (fun r' v' => r' = r ∧ i_Rel (k + 3) u' v') v v1) u v1 := by
  have K : i_Rel (k + 3) u v := I
  obtain ⟨m, a, b, rfl, rfl, hm, R⟩ := I
  by_cases h0 : v1 < 0
  · exact br_t h0 (br_t h0 ⟨rfl, K⟩)
  by_cases h1 : v1 < nI m
  · obtain ⟨p, hp, rfl⟩ := nI_of h0
    have hpm : p < m := (nI_ltI hp (by omega)).mp h1
    have hi : vp_in (nI (p / 4)) 3 := vp_in_nI (by omega) (by decide)
    have hc : (nI (p / 4)).toNatClampNeg = p / 4 := nI_clamp (by omega)
    have hj : vp_in (nI p) 12 := vp_in_nI (by omega) (by decide)
    have hd : (nI p).toNatClampNeg = p := nI_clamp (by omega)
    have hb := R p (by omega)
    have S : vm_R (upd a (p / 4) (vm_cl (a (p / 4)) (nI (2 * (p % 4))))) (upd b p (vp_nar .short 0)) := by
      rw [vm_s0]
      exact vm_set R (by omega) (vm_cl_s _ (by omega)).symm (fun t ht hn => vm_cl_n _ (by omega) ht hn)
    refine br_f h0 (br_t h1 (nm_r (vm_ix p (by omega)).1 (nm_r (vm_ix p (by omega)).2 ⟨hi, ?_⟩)))
    rw [hc]
    refine nm_e ⟨hi, hi, nm_e (br_c (fun z => ?_) (fun z => ?_))⟩
    · refine br_f h0 (br_t h1 ⟨hj, ?_⟩)
      rw [hd, hb]
      refine br_t z ⟨hj, ?_⟩
      rw [hd]
      exact nm_e ⟨narrow_b0, rfl, m, _, _, rfl, rfl, hm, S⟩
    · refine br_f h0 (br_t h1 ⟨hj, ?_⟩)
      rw [hd, hb]
      refine br_f z ⟨hj, ?_⟩
      rw [hd]
      exact nm_e ⟨narrow_b1, rfl, m, _, _, rfl, rfl, hm, S⟩
  · exact br_f h0 (br_f h1 (br_f h0 (br_f h1 ⟨rfl, K⟩)))
/-! count -/
theorem vm_scan (f : Int32) {m : Nat} {a b : Nat → Int32} (hm : m ≤ 12) (R : vm_R a b) : ∀ (d j : Nat) (c : Int32), j + d = m → ∃ r : Int32, (∀ post : Int32 → Prop, post r → wX_count_16 post f (nI m) a (d + 1) c (nI j)) ∧ (∀ post : Int32 → Prop, post r → wY_count_16 post f (nI m) b (d + 1) c (nI j)) := by
  intro d
  induction d with
  | zero =>
    intro j c hj
    have h : nI m ≤ nI j := nI_le (by omega) (by omega)
    exact ⟨c, fun _ hp => br_t h hp, fun _ hp => br_t h hp⟩
  | succ d ih =>
    intro j c hj
    have h : ¬ nI m ≤ nI j := nI_ge (by omega) (by omega)
    have hi : vp_in (nI (j / 4)) 3 := vp_in_nI (by omega) (by decide)
    have hc : (nI (j / 4)).toNatClampNeg = j / 4 := nI_clamp (by omega)
    have hy : vp_in (nI j) 12 := vp_in_nI (by omega) (by decide)
    have hd : (nI j).toNatClampNeg = j := nI_clamp (by omega)
    have hx := vm_ix j (by omega)
    have hb := R j (by omega)
    by_cases z : vm_g (a (j / 4)) (nI (2 * (j % 4))) &&& f = 0
    · obtain ⟨r, hX, hY⟩ := ih (j + 1) c (by omega)
      refine ⟨r, fun post hp => ?_, fun post hp => ?_⟩
      · refine br_f h ?_
        rw [hx.1, hx.2, hc]
        exact ⟨hi, nm_e (br_t z (nm_r (nI_1 j) (hX post hp)))⟩
      · refine br_f h ?_
        rw [hd, hb]
        exact ⟨hy, br_t z (nm_r (nI_1 j) (hY post hp))⟩
    · obtain ⟨r, hX, hY⟩ := ih (j + 1) (c + 1) (by omega)
      refine ⟨r, fun post hp => ?_, fun post hp => ?_⟩
      · refine br_f h ?_
        rw [hx.1, hx.2, hc]
        exact ⟨hi, nm_e (br_f z (nm_e (nm_r (nI_1 j) (hX post hp))))⟩
      · refine br_f h ?_
        rw [hd, hb]
        exact ⟨hy, br_f z (nm_e (nm_r (nI_1 j) (hY post hp)))⟩
theorem i_vc_count {k : Nat} {u : SX} {v : SY} (I : i_Rel k u v) (hk : k + 3 ≤ 1537) (v1 : Int32) : wpX_count (fun r => wpY_count (fun r' => r' = r ∧ i_Rel (k + 3) u v) v v1) u v1 := by
  have K : i_Rel (k + 3) u v := I
  obtain ⟨m, a, b, rfl, rfl, hm, R⟩ := I
  obtain ⟨r, hX, hY⟩ := vm_scan v1 hm R m 0 0 (by omega)
  rw [nI_0] at hX hY
  by_cases h1 : v1 = 1
  · exact br_t h1 ⟨_, hX _ (br_t h1 ⟨_, hY _ ⟨rfl, K⟩⟩)⟩
  by_cases h2 : v1 = 2
  · exact br_f h1 (br_t h2 ⟨_, hX _ (br_f h1 (br_t h2 ⟨_, hY _ ⟨rfl, K⟩⟩))⟩)
  · exact br_f h1 (br_f h2 (br_f h1 (br_f h2 ⟨rfl, K⟩)))
end
