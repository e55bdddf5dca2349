section
/-! bits of the mask: the family 'bt' out of kit/rows/BITS (bt .. nf_sh), then what is this claim's own -/
def bt (x : Int32) (i : Nat) : Bool := x.toBitVec.getLsbD i
theorem b_ext {x y : Int32} (h : ∀ i, i < 32 → bt x i = bt y i) : x = y := Int32.toBitVec_inj.mp (BitVec.eq_of_getLsbD_eq (fun i hi => h i hi))
theorem b_or (x y : Int32) (i : Nat) : bt (x ||| y) i = (bt x i || bt y i) := by unfold bt; rw [Int32.toBitVec_or, BitVec.getLsbD_or]
theorem b_and (x y : Int32) (i : Nat) : bt (x &&& y) i = (bt x i && bt y i) := by unfold bt; rw [Int32.toBitVec_and, BitVec.getLsbD_and]
theorem b_xor (x y : Int32) (i : Nat) : bt (x ^^^ y) i = (bt x i ^^ bt y i) := by unfold bt; rw [Int32.toBitVec_xor, BitVec.getLsbD_xor]
theorem b_m1 : ∀ i, i < 32 → bt (-1) i = true := by decide +kernel
theorem b_0 (i : Nat) : bt 0 i = false := BitVec.getLsbD_zero
theorem nf_sh : ∀ l, l < 32 → ((1 : Int32) <<< (nI l &&& 31)).toBitVec = BitVec.twoPow 32 l := by decide +kernel
theorem pk_us {f : Nat → Int32} {k : Nat} {x : Int32} : upd f k x k = x := if_pos rfl
theorem pk_un {f : Nat → Int32} {k j : Nat} {x : Int32} (h : j ≠ k) : upd f k x j = f j := if_neg h

/-- the bits of 1 << l -/
theorem aq_one {l : Nat} (hl : l < 32) (i : Nat) : bt ((1 : Int32) <<< (nI l &&& 31)) i = decide (l = i) := by
  unfold bt
  rw [nf_sh l hl, BitVec.getLsbD_twoPow, decide_eq_true hl, Bool.true_and]
/-- the reference's test of a task is the mask's bit -/
theorem aq_test (m : Int32) {l : Nat} (hl : l < 32) : (m &&& ((1 : Int32) <<< (nI l &&& 31))) = 0 ↔ bt m l = false := by
  constructor
  · intro h
    have e : bt (m &&& ((1 : Int32) <<< (nI l &&& 31))) l = false := by rw [h]; exact b_0 l
    rw [b_and, aq_one hl, decide_eq_true rfl, Bool.and_true] at e
    exact e
  · intro h
    apply b_ext
    intro i hi
    rw [b_and, aq_one hl, b_0]
    by_cases z : l = i
    · subst z
      rw [h, Bool.false_and]
    · rw [decide_eq_false z, Bool.and_false]

/-- the flags of the class and the mask of the reference name the same tasks -/
def aq_R (rd : Nat → Int32) (m : Int32) : Prop := ∀ j, j < 8 → (rd j = 0 ↔ bt m j = false)
/-- every boost is one of 0 .. 12 -/
def aq_B (bo : Nat → Int32) : Prop := ∀ j, ∃ n : Nat, n ≤ 12 ∧ bo j = nI n

theorem aq_R0 : aq_R (fun _ => 0) 0 := fun j _ => ⟨fun _ => b_0 j, fun _ => rfl⟩
theorem aq_B0 : aq_B (fun _ => 0) := fun _ => ⟨0, by omega, rfl⟩
theorem aq_Rset {rd : Nat → Int32} {m : Int32} {l : Nat} (h : aq_R rd m) (hl : l < 8) : aq_R (upd rd l 1) (m ||| ((1 : Int32) <<< (nI l &&& 31))) := by
  intro j hj
  rw [b_or, aq_one (by omega)]
  by_cases z : j = l
  · subst z
    rw [pk_us, decide_eq_true rfl, Bool.or_true]
    exact ⟨fun e => absurd e (by decide), fun e => absurd e (by decide)⟩
  · rw [pk_un z, decide_eq_false (fun e => z e.symm), Bool.or_false]
    exact h j hj
theorem aq_Rclr {rd : Nat → Int32} {m : Int32} {l : Nat} (h : aq_R rd m) (hl : l < 8) : aq_R (upd rd l 0) (m &&& (((1 : Int32) <<< (nI l &&& 31)) ^^^ (-1))) := by
  intro j hj
  rw [b_and, b_xor, aq_one (by omega), b_m1 j (by omega)]
  by_cases z : j = l
  · subst z
    rw [pk_us, decide_eq_true rfl]
    exact ⟨fun _ => by rw [Bool.xor_self, Bool.and_false], fun _ => rfl⟩
  · rw [pk_un z, decide_eq_false (fun e => z e.symm), Bool.false_xor, Bool.and_true]
    exact h j hj
theorem aq_Bset {bo : Nat → Int32} {l n : Nat} (h : aq_B bo) (hn : n ≤ 12) : aq_B (upd bo l (nI n)) := by
  intro j
  by_cases z : j = l
  · subst z
    exact ⟨n, hn, pk_us⟩
  · obtain ⟨q, hq, e⟩ := h j
    exact ⟨q, hq, (pk_un z).trans e⟩
/-- a boost below 12 and the next one -/
theorem aq_next {bo : Nat → Int32} {l : Nat} (h : aq_B bo) (hl : ¬ 12 ≤ bo l) : ∃ n : Nat, n ≤ 12 ∧ bo l + 1 = nI n := by
  obtain ⟨q, hq, e⟩ := h l
  rw [e] at hl ⊢
  have hq' : ¬ 12 ≤ q := fun z => hl (nI_le (a := 12) z (by omega))
  exact ⟨q + 1, by omega, nI_1 q⟩
theorem aq_byte : ∀ n, n < 13 → ((nI n).toInt8.toInt32).toInt8.toInt32 = nI n := by decide +kernel
theorem aq_pb (z : Int32) : vp_nar .byte z.toInt8.toInt32 = z.toInt8.toInt32 := by rw [vp_nar_byte]; simp
theorem aq_vb {n : Nat} (h : n ≤ 12) : vp_nar .byte ((nI n).toInt8.toInt32) = nI n := aq_byte n (by omega)
theorem aq_b0 : vp_nar .byte 0 = 0 := by rw [vp_nar_byte]; decide
theorem aq_t1 : vp_nar .boolean 1 = 1 := by decide +kernel
theorem aq_t0 : vp_nar .boolean 0 = 0 := by decide +kernel
theorem aq_8 : nI 8 = 8 := by decide +kernel
end
section
/-! the two loops, in lockstep: one outcome for both sides -/
theorem aq_tick {rd ba : Nat → Int32} {m : Int32} (hR : aq_R rd m) : ∀ d i : Nat, i + d = 8 → ∀ (c : Int32) (bo : Nat → Int32), aq_B bo →
    ∃ (r : Int32) (bo' : Nat → Int32), aq_B bo' ∧ (∀ post : Int32 → SX → Prop, post r (rd, ba, bo') → wX_tick_4 post (d + 1) c (nI i) rd ba bo) ∧ (∀ post : Int32 → SY → Prop, post r (m, ba, bo') → wY_tick_4 post m (d + 1) c (nI i) ba bo) := by
  intro d
  induction d with
  | zero =>
    intro i hi c bo hB
    have h : (8 : Int32) ≤ nI i := by rw [← aq_8]; exact nI_le (by omega) (by omega)
    exact ⟨c, bo, hB, fun _ hp => br_t h hp, fun _ hp => br_t h hp⟩
  | succ d ih =>
    intro i hi c bo hB
    have h : ¬ (8 : Int32) ≤ nI i := by rw [← aq_8]; exact nI_ge (by omega) (by omega)
    have hv : vp_in (nI i) 8 := vp_in_nI (by omega) (by omega)
    have hc : (nI i).toNatClampNeg = i := nI_clamp (by omega)
    have hT := (aq_test m (l := i) (by omega)).trans (hR i (by omega)).symm
    by_cases z : rd i = 0
    · obtain ⟨r, bo', hB', hX, hY⟩ := ih (i + 1) (by omega) c bo hB
      have zx : rd (nI i).toNatClampNeg = 0 := by rw [hc]; exact z
      refine ⟨r, bo', hB', fun post hp => br_f h ⟨hv, br_t zx (nm_r (nI_1 i) (hX post hp))⟩, fun post hp => br_f h (br_t (hT.mpr z) (nm_r (nI_1 i) (hY post hp)))⟩
    · have zx : ¬ rd (nI i).toNatClampNeg = 0 := by rw [hc]; exact z
      have zy : ¬ (m &&& ((1 : Int32) <<< (nI i &&& 31))) = 0 := fun e => z (hT.mp e)
      by_cases w : 12 ≤ bo i
      · obtain ⟨r, bo', hB', hX, hY⟩ := ih (i + 1) (by omega) (c + 1) bo hB
        have wx : 12 ≤ bo (nI i).toNatClampNeg := by rw [hc]; exact w
        refine ⟨r, bo', hB', fun post hp => br_f h ⟨hv, br_f zx (nm_e ⟨hv, br_t wx (nm_r (nI_1 i) (hX post hp))⟩)⟩, fun post hp => br_f h (br_f zy (nm_e ⟨hv, br_t wx (nm_r (nI_1 i) (hY post hp))⟩))⟩
      · obtain ⟨n, hn, e⟩ := aq_next hB w
        obtain ⟨r, bo', hB', hX, hY⟩ := ih (i + 1) (by omega) (c + 1) (upd bo i (nI n)) (aq_Bset hB hn)
        have wx : ¬ 12 ≤ bo (nI i).toNatClampNeg := by rw [hc]; exact w
        have ex : upd bo (nI i).toNatClampNeg (bo (nI i).toNatClampNeg + 1) = upd bo i (nI n) := by rw [hc, e]
        have ey : upd bo (nI i).toNatClampNeg (vp_nar .byte ((bo (nI i).toNatClampNeg + 1).toInt8.toInt32)) = upd bo i (nI n) := by rw [hc, e, aq_vb hn]
        refine ⟨r, bo', hB', fun post hp => br_f h ⟨hv, br_f zx (nm_e ⟨hv, br_f wx ⟨hv, hv, nm_r ex (nm_r (nI_1 i) (hX post hp))⟩⟩)⟩, fun post hp => br_f h (br_f zy (nm_e ⟨hv, br_f wx ⟨hv, hv, nm_r ey (nm_r (nI_1 i) (hY post hp))⟩⟩))⟩

theorem aq_pick {rd ba bo : Nat → Int32} {m : Int32} (hR : aq_R rd m) (hB : aq_B bo) : ∀ d i : Nat, i + d = 8 → ∀ b s : Int32, (b = -1 ∨ ∃ j : Nat, j < 8 ∧ b = nI j) →
    ∃ (r : Int32) (rd' bo' : Nat → Int32) (m' : Int32), aq_R rd' m' ∧ aq_B bo' ∧ (∀ post : Int32 → SX → Prop, post r (rd', ba, bo') → wX_pick_6 post rd ba bo (d + 1) b s (nI i)) ∧ (∀ post : Int32 → SY → Prop, post r (m', ba, bo') → wY_pick_6 post m ba bo (d + 1) b s (nI i)) := by
  intro d
  induction d with
  | zero =>
    intro i hi b s hb
    have h : (8 : Int32) ≤ nI i := by rw [← aq_8]; exact nI_le (by omega) (by omega)
    rcases hb with rfl | ⟨j, hj, rfl⟩
    · exact ⟨-1, rd, bo, m, hR, hB, fun _ hp => br_t h (br_f (by decide) hp), fun _ hp => br_t h (br_t (by decide) hp)⟩
    · have hv : vp_in (nI j) 8 := vp_in_nI hj (by omega)
      have hc : (nI j).toNatClampNeg = j := nI_clamp (by omega)
      have er : upd rd (nI j).toNatClampNeg (vp_nar .boolean 0) = upd rd j 0 := by rw [hc, aq_t0]
      have ex : upd bo (nI j).toNatClampNeg 0 = upd bo j (nI 0) := by rw [hc, nI_0]
      have ey : upd bo (nI j).toNatClampNeg (vp_nar .byte 0) = upd bo j (nI 0) := by rw [hc, aq_b0, nI_0]
      exact ⟨nI j, upd rd j 0, upd bo j (nI 0), _, aq_Rclr hR hj, aq_Bset hB (by omega),
        fun _ hp => br_t h (br_t (nI_pos' (by omega)) ⟨hv, nm_r er ⟨hv, nm_r ex hp⟩⟩),
        fun _ hp => br_t h (br_f (nI_pos (by omega)) ⟨hv, nm_r ey (nm_e hp)⟩)⟩
  | succ d ih =>
    intro i hi b s hb
    have h : ¬ (8 : Int32) ≤ nI i := by rw [← aq_8]; exact nI_ge (by omega) (by omega)
    have hv : vp_in (nI i) 8 := vp_in_nI (by omega) (by omega)
    have hc : (nI i).toNatClampNeg = i := nI_clamp (by omega)
    have hT := (aq_test m (l := i) (by omega)).trans (hR i (by omega)).symm
    by_cases z : rd i = 0
    · obtain ⟨r, rd', bo', m', hR', hB', hX, hY⟩ := ih (i + 1) (by omega) b s hb
      have zx : rd (nI i).toNatClampNeg = 0 := by rw [hc]; exact z
      exact ⟨r, rd', bo', m', hR', hB', fun post hp => br_f h ⟨hv, br_t zx (nm_r (nI_1 i) (hX post hp))⟩, fun post hp => br_f h (br_t (hT.mpr z) (nm_r (nI_1 i) (hY post hp)))⟩
    · have zx : ¬ rd (nI i).toNatClampNeg = 0 := by rw [hc]; exact z
      have zy : ¬ (m &&& ((1 : Int32) <<< (nI i &&& 31))) = 0 := fun e => z (hT.mp e)
      by_cases b0 : b < 0
      · obtain ⟨r, rd', bo', m', hR', hB', hX, hY⟩ := ih (i + 1) (by omega) (nI i) (ba (nI i).toNatClampNeg + bo (nI i).toNatClampNeg) (Or.inr ⟨i, by omega, rfl⟩)
        exact ⟨r, rd', bo', m', hR', hB', fun post hp => br_f h ⟨hv, br_f zx ⟨hv, hv, nm_e (br_t b0 (nm_r (nI_1 i) (hX post hp)))⟩⟩, fun post hp => br_f h (br_f zy ⟨hv, hv, nm_e (br_t b0 (nm_r (nI_1 i) (hY post hp)))⟩)⟩
      · by_cases w : ba (nI i).toNatClampNeg + bo (nI i).toNatClampNeg ≤ s
        · obtain ⟨r, rd', bo', m', hR', hB', hX, hY⟩ := ih (i + 1) (by omega) b s hb
          exact ⟨r, rd', bo', m', hR', hB', fun post hp => br_f h ⟨hv, br_f zx ⟨hv, hv, nm_e (br_f b0 (br_t w (nm_r (nI_1 i) (hX post hp))))⟩⟩, fun post hp => br_f h (br_f zy ⟨hv, hv, nm_e (br_f b0 (br_t w (nm_r (nI_1 i) (hY post hp))))⟩)⟩
        · obtain ⟨r, rd', bo', m', hR', hB', hX, hY⟩ := ih (i + 1) (by omega) (nI i) (ba (nI i).toNatClampNeg + bo (nI i).toNatClampNeg) (Or.inr ⟨i, by omega, rfl⟩)
          exact ⟨r, rd', bo', m', hR', hB', fun post hp => br_f h ⟨hv, br_f zx ⟨hv, hv, nm_e (br_f b0 (br_f w (nm_r (nI_1 i) (hX post hp))))⟩⟩, fun post hp => br_f h (br_f zy ⟨hv, hv, nm_e (br_f b0 (br_f w (nm_r (nI_1 i) (hY post hp))))⟩)⟩
end
section
/-- the same priorities and boosts on both sides, boosts within 0 .. 12, the flags by the mask's bits -/
def i_Rel (_ : Nat) (u : SX) (v : SY) : Prop := ∃ (rd ba bo : Nat → Int32) (m : Int32), u = (rd, ba, bo) ∧ v = (m, ba, bo) ∧ aq_R rd m ∧ aq_B bo
theorem i_up {k : Nat} {u : SX} {v : SY} (h : i_Rel k u v) : i_Rel (k + 3) u v := h
theorem i_vc0 : wpX_init (fun u => wpY_init (fun v => i_Rel 0 u v)) := ⟨_, _, _, _, rfl, rfl, aq_R0, aq_B0⟩
theorem i_vc_ready {k : Nat} {u : SX} {v : SY} (I : i_Rel k u v) (hk : k + 3 ≤ 1536) (v1 : Int32) (v2 : Int32) : wpX_ready (fun r u' => wpY_ready (fun r' v' => r' = r ∧ i_Rel (k + 3) u' v') v v1 v2) u v1 v2 := by
  obtain ⟨rd, ba, bo, m, rfl, rfl, hR, hB⟩ := I
  by_cases h0 : v1 < 0
  · exact br_t h0 (br_t h0 ⟨rfl, rd, ba, bo, m, rfl, rfl, hR, hB⟩)
  · by_cases h7 : v1 ≤ 7
    · obtain ⟨j, hj, rfl⟩ := nI_of2 (n := 7) (by decide) h0 h7
      have hv : vp_in (nI j) 8 := vp_in_nI (by omega) (by omega)
      have hc : (nI j).toNatClampNeg = j := nI_clamp (by omega)
      have hT := (aq_test m (l := j) (by omega)).trans (hR j (by omega)).symm
      by_cases z : rd j = 0
      · have zx : rd (nI j).toNatClampNeg = 0 := by rw [hc]; exact z
        have er : upd rd (nI j).toNatClampNeg (vp_nar .boolean 1) = upd rd j 1 := by rw [hc, aq_t1]
        have eb : upd ba (nI j).toNatClampNeg v2.toInt8.toInt32 = upd ba j v2.toInt8.toInt32 := by rw [hc]
        have ec : upd ba (nI j).toNatClampNeg (vp_nar .byte v2.toInt8.toInt32) = upd ba j v2.toInt8.toInt32 := by rw [hc, aq_pb]
        have ex : upd bo (nI j).toNatClampNeg 0 = upd bo j (nI 0) := by rw [hc, nI_0]
        have ey : upd bo (nI j).toNatClampNeg (vp_nar .byte 0) = upd bo j (nI 0) := by rw [hc, aq_b0, nI_0]
        refine br_f h0 (br_t h7 ⟨hv, br_t zx ⟨hv, nm_r er ⟨hv, nm_r eb ⟨hv, nm_r ex ?_⟩⟩⟩⟩)
        exact br_f h0 (br_t h7 (br_t (hT.mpr z) ⟨hv, nm_r ec ⟨hv, nm_r ey (nm_e ⟨rfl, _, _, _, _, rfl, rfl, aq_Rset hR (by omega), aq_Bset hB (by omega)⟩)⟩⟩))
      · have zx : ¬ rd (nI j).toNatClampNeg = 0 := by rw [hc]; exact z
        have zy : ¬ (m &&& ((1 : Int32) <<< (nI j &&& 31))) = 0 := fun e => z (hT.mp e)
        refine br_f h0 (br_t h7 ⟨hv, br_f zx ?_⟩)
        exact br_f h0 (br_t h7 (br_f zy ⟨rfl, rd, ba, bo, m, rfl, rfl, hR, hB⟩))
    · exact br_f h0 (br_f h7 (br_f h0 (br_f h7 ⟨rfl, rd, ba, bo, m, rfl, rfl, hR, hB⟩)))
theorem i_vc_tick {k : Nat} {u : SX} {v : SY} (I : i_Rel k u v) (hk : k + 3 ≤ 1536) : wpX_tick (fun r u' => wpY_tick (fun r' v' => r' = r ∧ i_Rel (k + 3) u' v') v) u := by
  obtain ⟨rd, ba, bo, m, rfl, rfl, hR, hB⟩ := I
  obtain ⟨r, bo', hB', hX, hY⟩ := aq_tick (ba := ba) hR 8 0 rfl 0 bo hB
  rw [nI_0] at hX hY
  exact ⟨_, hX _ ⟨_, hY _ ⟨rfl, rd, ba, bo', m, rfl, rfl, hR, hB'⟩⟩⟩
theorem i_vc_pick {k : Nat} {u : SX} {v : SY} (I : i_Rel k u v) (hk : k + 3 ≤ 1536) : wpX_pick (fun r u' => wpY_pick (fun r' v' => r' = r ∧ i_Rel (k + 3) u' v') v) u := by
  obtain ⟨rd, ba, bo, m, rfl, rfl, hR, hB⟩ := I
  obtain ⟨r, rd', bo', m', hR', hB', hX, hY⟩ := aq_pick (ba := ba) hR hB 8 0 rfl (-1) 0 (Or.inl rfl)
  rw [nI_0] at hX hY
  exact ⟨_, hX _ ⟨_, hY _ ⟨rfl, rd', ba, bo', m', rfl, rfl, hR', hB'⟩⟩⟩
theorem i_vc_score {k : Nat} {u : SX} {v : SY} (I : i_Rel k u v) (hk : k + 3 ≤ 1536) (v1 : Int32) : wpX_score (fun r => wpY_score (fun r' => r' = r ∧ i_Rel (k + 3) u v) v v1) u v1 := by
  have J : i_Rel (k + 3) u v := I
  obtain ⟨rd, ba, bo, m, rfl, rfl, hR, hB⟩ := I
  by_cases h0 : v1 < 0
  · exact br_t h0 (br_t h0 ⟨rfl, J⟩)
  · by_cases h7 : v1 ≤ 7
    · obtain ⟨j, hj, rfl⟩ := nI_of2 (n := 7) (by decide) h0 h7
      have hv : vp_in (nI j) 8 := vp_in_nI (by omega) (by omega)
      have hc : (nI j).toNatClampNeg = j := nI_clamp (by omega)
      have hT := (aq_test m (l := j) (by omega)).trans (hR j (by omega)).symm
      by_cases z : rd j = 0
      · have zx : rd (nI j).toNatClampNeg = 0 := by rw [hc]; exact z
        exact br_f h0 (br_t h7 ⟨hv, br_t zx (br_f h0 (br_t h7 (br_t (hT.mpr z) ⟨rfl, J⟩)))⟩)
      · have zx : ¬ rd (nI j).toNatClampNeg = 0 := by rw [hc]; exact z
        have zy : ¬ (m &&& ((1 : Int32) <<< (nI j &&& 31))) = 0 := fun e => z (hT.mp e)
        exact br_f h0 (br_t h7 ⟨hv, br_f zx ⟨hv, hv, br_f h0 (br_t h7 (br_f zy ⟨hv, hv, ⟨rfl, J⟩⟩))⟩⟩)
    · exact br_f h0 (br_f h7 (br_f h0 (br_f h7 ⟨rfl, J⟩)))
end
