section
/-! the ranges that both sides' arrays keep, and the narrowings that change nothing within them -/
def ad_W (w : Nat → Int32) : Prop := ∀ j, 0 ≤ (w j).toInt ∧ (w j).toInt ≤ 255
def ad_C (c : Nat → Int32) : Prop := ∀ j, 0 ≤ (c j).toInt ∧ (c j).toInt ≤ 2040
def ad_V (s : Nat → Int32) : Prop := ∀ j, 0 ≤ (s j).toInt ∧ (s j).toInt < 8
theorem ad_us {f : Nat → Int32} {k : Nat} {x : Int32} : upd f k x k = x := if_pos rfl
theorem ad_un {f : Nat → Int32} {k j : Nat} {x : Int32} (h : j ≠ k) : upd f k x j = f j := if_neg h
theorem ad_all (P : Int32 → Prop) {f : Nat → Int32} {k : Nat} {x : Int32} (h : ∀ j, P (f j)) (hx : P x) : ∀ j, P (upd f k x j) := by
  intro j
  by_cases e : j = k
  · rw [e, ad_us]; exact hx
  · rw [ad_un e]; exact h j
theorem ad_m1 (n : Nat) : nI (n + 1) + (-1) = nI n := by
  rw [← nI_1, Int32.add_assoc, show (1 : Int32) + (-1) = 0 from rfl, Int32.add_zero]
theorem ad_b {x : Int32} (h : 0 ≤ x.toInt ∧ x.toInt < 8) : vp_nar .byte x.toInt8.toInt32 = x := by
  have e : x.toInt8.toInt32 = x := lg_i2b_small (by omega) (by omega)
  rw [e, vp_nar_byte, e]
theorem ad_s {x : Int32} (h : 0 ≤ x.toInt ∧ x.toInt ≤ 2040) : vp_nar .short x.toInt16.toInt32 = x := by
  have e : x.toInt16.toInt32 = x := lg_i2s_small (by omega) (by omega)
  rw [e, vp_nar_short, e]
theorem ad_c {x : Int32} (h : 0 ≤ x.toInt ∧ x.toInt ≤ 255) : vp_nar .char (x.toUInt32 % 65536).toInt32 = x := by
  have e : x.toUInt32.toUInt16.toUInt32.toInt32 = x := lg_i2c_small (by omega) (by omega)
  rw [lg_i2c_nf, e, vp_nar_char, e]
theorem ad_vin {x : Int32} (h : 0 ≤ x.toInt ∧ x.toInt < 8) : vp_in x 8 := vp_in_iff.mpr (by omega)
theorem ad_nIr {i : Nat} (h : i < 8) : 0 ≤ (nI i).toInt ∧ (nI i).toInt < 8 := by
  rw [nI_toInt (by omega)]; omega
theorem ad_in {x : Int32} (h0 : ¬ x < 0) (h7 : x ≤ 7) : vp_in x 8 := by
  obtain ⟨j, hj, rfl⟩ := nI_of2 (M := 7) (n := 7) (by decide) h0 h7
  exact vp_in_nI (by omega) (by decide)
theorem ad_255 {x : Int32} (h0 : ¬ x < 0) (h : x ≤ 255) : 0 ≤ x.toInt ∧ x.toInt ≤ 255 := by
  obtain ⟨j, hj, rfl⟩ := nI_of2 (M := 255) (n := 255) (by decide) h0 h
  rw [nI_toInt (by omega)]; omega
theorem ad_and (y : Int32) : vp_in (y &&& 7) 8 := by
  have h : (y &&& 7).toBitVec.toNat < 8 := by
    rw [Int32.toBitVec_and, BitVec.toNat_and]
    exact Nat.lt_of_le_of_lt Nat.and_le_right (by decide)
  have e : (y &&& 7).toInt = (y &&& 7).toBitVec.toInt := rfl
  rw [vp_in_iff, e, BitVec.toInt_eq_toNat_of_lt (by omega)]
  omega
theorem ad_tot (t w v : Int32) : t + (v - w) = (t - w) + v := by grind
theorem ad_8w {x : Int32} (h : 0 ≤ x.toInt ∧ x.toInt ≤ 255) : 0 ≤ (8 * x).toInt ∧ (8 * x).toInt ≤ 2040 := by
  have e8 : (8 : Int32).toInt = 8 := by decide
  have e : (8 * x).toInt = (8 : Int32).toInt * x.toInt := Jvm.Kit.i32_mul (by rw [e8]; omega) (by rw [e8]; omega)
  rw [e, e8]; omega
theorem ad_val {t cl cs : Int32} (h0 : 0 ≤ cs.toInt) (h1 : cs.toInt < t.toInt) (h2 : t.toInt ≤ cl.toInt) (h3 : cl.toInt ≤ 2040) : (cl - (t - cs)).toInt = cl.toInt - (t.toInt - cs.toInt) := by
  have e : (t - cs).toInt = t.toInt - cs.toInt := Jvm.Kit.i32_sub (by omega) (by omega)
  have e2 : (cl - (t - cs)).toInt = cl.toInt - (t - cs).toInt := Jvm.Kit.i32_sub (by rw [e]; omega) (by rw [e]; omega)
  rw [e2, e]
/-! the second loop: ns on the small stack, nl on the large one; no index stands twice on the large one -/
def ad_I (t : Int32) (ns nl : Nat) (c s l : Nat → Int32) : Prop := ns + nl ≤ 8 ∧ ad_C c ∧ ad_V s ∧ ad_V l ∧ (∀ a, a < ns → (c (s a).toNatClampNeg).toInt < t.toInt) ∧ (∀ a, a < nl → t.toInt ≤ (c (l a).toNatClampNeg).toInt) ∧ ∀ a b, a < b → b < nl → (l a).toNatClampNeg ≠ (l b).toNatClampNeg
theorem ad_Iv {t : Int32} {ns nl : Nat} {c s l : Nat → Int32} (h : ad_I t (ns + 1) (nl + 1) c s l) : (c (l nl).toNatClampNeg - (t - c (s ns).toNatClampNeg)).toInt = (c (l nl).toNatClampNeg).toInt - (t.toInt - (c (s ns).toNatClampNeg).toInt) := by
  obtain ⟨_, hC, _, _, hS, hL, _⟩ := h
  exact ad_val (hC _).1 (hS ns (by omega)) (hL nl (by omega)) (hC _).2
/-- the new cut of the large one lies between 0 and its old cut -/
theorem ad_Iz {t : Int32} {ns nl : Nat} {c s l : Nat → Int32} (h : ad_I t (ns + 1) (nl + 1) c s l) {z : Int32} (hz : z = c (l nl).toNatClampNeg - (t - c (s ns).toNatClampNeg)) : (0 ≤ z.toInt ∧ z.toInt ≤ 2040) ∧ z.toInt ≤ (c (l nl).toNatClampNeg).toInt := by
  have e := ad_Iv h
  rw [← hz] at e
  obtain ⟨_, hC, _, _, hS, hL, _⟩ := h
  have h1 := hS ns (by omega)
  have h2 := hL nl (by omega)
  have h3 := hC (s ns).toNatClampNeg
  have h4 := hC (l nl).toNatClampNeg
  omega
/-- a cut that only falls at one index falls nowhere else -/
theorem ad_fall {c : Nat → Int32} {k : Nat} {z : Int32} (h : z.toInt ≤ (c k).toInt) (j : Nat) : (upd c k z j).toInt ≤ (c j).toInt := by
  by_cases e : j = k
  · rw [e, ad_us]; exact h
  · rw [ad_un e]; exact Int.le_refl _
theorem ad_same {l : Nat → Int32} {n : Nat} : upd l n (l n) = l := by
  funext j
  by_cases e : j = n
  · rw [e, ad_us]
  · rw [ad_un e]
theorem ad_IL {t : Int32} {ns nl : Nat} {c s l : Nat → Int32} (h : ad_I t (ns + 1) (nl + 1) c s l) {z : Int32} (hz : z = c (l nl).toNatClampNeg - (t - c (s ns).toNatClampNeg)) (hb : t ≤ z) : ad_I t ns (nl + 1) (upd c (l nl).toNatClampNeg z) s (upd l nl (l nl)) := by
  obtain ⟨hz0, hz1⟩ := ad_Iz h hz
  rw [Int32.le_iff_toInt_le] at hb
  obtain ⟨h8, hC, hs, hl, hS, hL, hD⟩ := h
  rw [ad_same]
  refine ⟨by omega, ad_all (fun x => 0 ≤ x.toInt ∧ x.toInt ≤ 2040) hC hz0, hs, hl, fun a ha => ?_, fun a ha => ?_, hD⟩
  · exact Int.lt_of_le_of_lt (ad_fall hz1 _) (hS a (by omega))
  · by_cases e : a = nl
    · rw [e, ad_us]; exact hb
    · rw [ad_un (hD a nl (by omega) (by omega))]; exact hL a ha
theorem ad_IS {t : Int32} {ns nl : Nat} {c s l : Nat → Int32} (h : ad_I t (ns + 1) (nl + 1) c s l) {z : Int32} (hz : z = c (l nl).toNatClampNeg - (t - c (s ns).toNatClampNeg)) (hb : ¬ t ≤ z) : ad_I t (ns + 1) nl (upd c (l nl).toNatClampNeg z) (upd s ns (l nl)) l := by
  obtain ⟨hz0, hz1⟩ := ad_Iz h hz
  rw [Int32.le_iff_toInt_le] at hb
  obtain ⟨h8, hC, hs, hl, hS, hL, hD⟩ := h
  refine ⟨by omega, ad_all (fun x => 0 ≤ x.toInt ∧ x.toInt ≤ 2040) hC hz0, ad_all (fun x => 0 ≤ x.toInt ∧ x.toInt < 8) hs (hl nl), hl, fun a ha => ?_, fun a ha => ?_, fun a b hab hb' => hD a b hab (by omega)⟩
  · by_cases e : a = ns
    · rw [e, ad_us, ad_us]; omega
    · rw [ad_un (f := s) e]
      exact Int.lt_of_le_of_lt (ad_fall hz1 _) (hS a (by omega))
  · rw [ad_un (hD a nl ha (by omega))]; exact hL a (by omega)
/-! the first loop: i faces are shared out -/
def ad_J (t : Int32) (i ns nl : Nat) (c s l : Nat → Int32) : Prop := ns + nl = i ∧ i ≤ 8 ∧ ad_C c ∧ ad_V s ∧ ad_V l ∧ (∀ a, a < ns → (s a).toNatClampNeg < i ∧ (c (s a).toNatClampNeg).toInt < t.toInt) ∧ (∀ a, a < nl → (l a).toNatClampNeg < i ∧ t.toInt ≤ (c (l a).toNatClampNeg).toInt) ∧ ∀ a b, a < b → b < nl → (l a).toNatClampNeg ≠ (l b).toNatClampNeg
theorem ad_J0 {t : Int32} {c s l : Nat → Int32} (hC : ad_C c) (hs : ad_V s) (hl : ad_V l) : ad_J t 0 0 0 c s l := ⟨rfl, by omega, hC, hs, hl, fun a ha => absurd ha (Nat.not_lt_zero a), fun a ha => absurd ha (Nat.not_lt_zero a), fun a b _ hb => absurd hb (Nat.not_lt_zero b)⟩
theorem ad_JI {t : Int32} {ns nl : Nat} {c s l : Nat → Int32} (h : ad_J t 8 ns nl c s l) : ad_I t ns nl c s l := by
  obtain ⟨h8, _, hC, hs, hl, hS, hL, hD⟩ := h
  exact ⟨by omega, hC, hs, hl, fun a ha => (hS a ha).2, fun a ha => (hL a ha).2, hD⟩
theorem ad_JL {t : Int32} {i ns nl : Nat} {c s l : Nat → Int32} (h : ad_J t i ns nl c s l) (hi : i < 8) {z : Int32} (hz : 0 ≤ z.toInt ∧ z.toInt ≤ 2040) (hb : t ≤ z) : ad_J t (i + 1) ns (nl + 1) (upd c i z) s (upd l nl (nI i)) := by
  rw [Int32.le_iff_toInt_le] at hb
  obtain ⟨h8, _, hC, hs, hl, hS, hL, hD⟩ := h
  have ei : (nI i).toNatClampNeg = i := nI_clamp (by omega)
  refine ⟨by omega, by omega, ad_all (fun x => 0 ≤ x.toInt ∧ x.toInt ≤ 2040) hC hz, hs, ad_all (fun x => 0 ≤ x.toInt ∧ x.toInt < 8) hl (ad_nIr hi), fun a ha => ?_, fun a ha => ?_, fun a b hab hb' => ?_⟩
  · have g := hS a ha
    rw [ad_un (f := c) (Nat.ne_of_lt g.1)]
    exact ⟨by omega, g.2⟩
  · by_cases e : a = nl
    · rw [e, ad_us, ei, ad_us]; exact ⟨by omega, hb⟩
    · have g := hL a (by omega)
      rw [ad_un (f := l) e, ad_un (f := c) (Nat.ne_of_lt g.1)]
      exact ⟨by omega, g.2⟩
  · rw [ad_un (f := l) (j := a) (by omega)]
    by_cases e : b = nl
    · rw [e, ad_us, ei]
      exact Nat.ne_of_lt (hL a (by omega)).1
    · rw [ad_un (f := l) e]
      exact hD a b hab (by omega)
theorem ad_JS {t : Int32} {i ns nl : Nat} {c s l : Nat → Int32} (h : ad_J t i ns nl c s l) (hi : i < 8) {z : Int32} (hz : 0 ≤ z.toInt ∧ z.toInt ≤ 2040) (hb : ¬ t ≤ z) : ad_J t (i + 1) (ns + 1) nl (upd c i z) (upd s ns (nI i)) l := by
  rw [Int32.le_iff_toInt_le] at hb
  obtain ⟨h8, _, hC, hs, hl, hS, hL, hD⟩ := h
  have ei : (nI i).toNatClampNeg = i := nI_clamp (by omega)
  refine ⟨by omega, by omega, ad_all (fun x => 0 ≤ x.toInt ∧ x.toInt ≤ 2040) hC hz, ad_all (fun x => 0 ≤ x.toInt ∧ x.toInt < 8) hs (ad_nIr hi), hl, fun a ha => ?_, fun a ha => ?_, hD⟩
  · by_cases e : a = ns
    · rw [e, ad_us, ei, ad_us]; exact ⟨by omega, by omega⟩
    · have g := hS a (by omega)
      rw [ad_un (f := s) e, ad_un (f := c) (Nat.ne_of_lt g.1)]
      exact ⟨by omega, g.2⟩
  · have g := hL a ha
    rw [ad_un (f := c) (Nat.ne_of_lt g.1)]
    exact ⟨by omega, g.2⟩
end
section
/-! both sides' loops of freeze in lockstep: one end state for both -/
theorem ad_l2 (t fz : Int32) (w : Nat → Int32) : ∀ (m ns nl : Nat) (c al s l : Nat → Int32), ns + nl ≤ m → ad_I t ns nl c s l → ∃ c' al' s' l' : Nat → Int32, (ad_C c' ∧ ad_V s' ∧ ad_V l') ∧ (∀ post : Int32 → SX → Prop, post t (t, 1, w, c', al', s', l') → wX_freeze_106 post t t fz (m + 1) (nI ns) (nI nl) w c al s l) ∧ (∀ post : Int32 → SY → Prop, post t (t, 1, w, c', al', s', l') → wY_freeze_99 post t fz (m + 1) (nI ns) (nI nl) w c al s l) := by
  intro m
  induction m with
  | zero =>
    intro ns nl c al s l hm h
    have e : ns = 0 := by omega
    subst e
    have h0 : nI 0 ≤ 0 := by rw [nI_0]; decide
    exact ⟨c, al, s, l, ⟨h.2.1, h.2.2.1, h.2.2.2.1⟩, fun _ hp => br_t h0 hp, fun _ hp => br_t h0 hp⟩
  | succ m ih =>
    intro ns nl c al s l hm h
    have h0 : nI 0 ≤ 0 := by rw [nI_0]; decide
    rcases ns with _ | ns
    · exact ⟨c, al, s, l, ⟨h.2.1, h.2.2.1, h.2.2.2.1⟩, fun _ hp => br_t h0 hp, fun _ hp => br_t h0 hp⟩
    · have h8 : ns + 1 + nl ≤ 8 := h.1
      have hns : ¬ nI (ns + 1) ≤ 0 := nI_nle (by omega) (by omega)
      rcases nl with _ | nl
      · exact ⟨c, al, s, l, ⟨h.2.1, h.2.2.1, h.2.2.2.1⟩, fun _ hp => br_f hns (br_t h0 hp), fun _ hp => br_f hns (br_t h0 hp)⟩
      · have hnl : ¬ nI (nl + 1) ≤ 0 := nI_nle (by omega) (by omega)
        have is : vp_in (nI ns) 8 := vp_in_nI (by omega) (by omega)
        have il : vp_in (nI nl) 8 := vp_in_nI (by omega) (by omega)
        have es : (nI ns).toNatClampNeg = ns := nI_clamp (by omega)
        have el : (nI nl).toNatClampNeg = nl := nI_clamp (by omega)
        have vs : vp_in (s ns) 8 := ad_vin (h.2.2.1 ns)
        have vl : vp_in (l nl) 8 := ad_vin (h.2.2.2.1 nl)
        have nb : vp_nar .byte (l nl).toInt8.toInt32 = l nl := ad_b (h.2.2.2.1 nl)
        obtain ⟨z, hz⟩ : ∃ z : Int32, z = c (l nl).toNatClampNeg - (t - c (s ns).toNatClampNeg) := ⟨_, rfl⟩
        have nz : vp_nar .short ((c (l nl).toNatClampNeg - (t - c (s ns).toNatClampNeg)).toInt16.toInt32) = z := by
          rw [← hz]; exact ad_s (ad_Iz h hz).1
        by_cases hb : t ≤ z
        · have hb' : t ≤ upd c (l nl).toNatClampNeg z (l nl).toNatClampNeg := by rw [ad_us]; exact hb
          obtain ⟨c', al', s', l', hg, hX, hY⟩ := ih ns (nl + 1) (upd c (l nl).toNatClampNeg z) (upd al (s ns).toNatClampNeg (l nl)) s (upd l nl (l nl)) (by omega) (ad_IL h hz hb)
          refine ⟨c', al', s', l', hg, fun post hp => ?_, fun post hp => ?_⟩
          · exact br_f hns (br_f hnl (nm_r (ad_m1 ns) ⟨is, nm_r (congrArg s es) (nm_r (ad_m1 nl) ⟨il, nm_r (congrArg l el) ⟨vs, nm_e ⟨vl, vs, vl, nm_r (congrArg (upd c (l nl).toNatClampNeg) hz.symm) ⟨vl, br_t hb' ⟨il, nm_r (congrArg (fun k => upd l k (l nl)) el) (nm_r (nI_1 nl) (hX post hp))⟩⟩⟩⟩⟩)⟩))
          · exact br_f hns (br_f hnl (nm_r (ad_m1 ns) ⟨is, nm_r (congrArg s es) (nm_r (ad_m1 nl) ⟨il, nm_r (congrArg l el) ⟨vs, nm_r (congrArg (upd al (s ns).toNatClampNeg) nb) ⟨vl, vs, vl, nm_r (congrArg (upd c (l nl).toNatClampNeg) nz) ⟨vl, br_t hb' (nm_r (nI_1 nl) ⟨il, nm_r ((congrArg (fun k => upd l k _) el).trans (congrArg (upd l nl) nb)) (hY post hp)⟩)⟩⟩⟩⟩)⟩))
        · have hb' : ¬ t ≤ upd c (l nl).toNatClampNeg z (l nl).toNatClampNeg := by rw [ad_us]; exact hb
          obtain ⟨c', al', s', l', hg, hX, hY⟩ := ih (ns + 1) nl (upd c (l nl).toNatClampNeg z) (upd al (s ns).toNatClampNeg (l nl)) (upd s ns (l nl)) l (by omega) (ad_IS h hz hb)
          refine ⟨c', al', s', l', hg, fun post hp => ?_, fun post hp => ?_⟩
          · exact br_f hns (br_f hnl (nm_r (ad_m1 ns) ⟨is, nm_r (congrArg s es) (nm_r (ad_m1 nl) ⟨il, nm_r (congrArg l el) ⟨vs, nm_e ⟨vl, vs, vl, nm_r (congrArg (upd c (l nl).toNatClampNeg) hz.symm) ⟨vl, br_f hb' ⟨is, nm_r (congrArg (fun k => upd s k (l nl)) es) (nm_r (nI_1 ns) (hX post hp))⟩⟩⟩⟩⟩)⟩))
          · exact br_f hns (br_f hnl (nm_r (ad_m1 ns) ⟨is, nm_r (congrArg s es) (nm_r (ad_m1 nl) ⟨il, nm_r (congrArg l el) ⟨vs, nm_r (congrArg (upd al (s ns).toNatClampNeg) nb) ⟨vl, vs, vl, nm_r (congrArg (upd c (l nl).toNatClampNeg) nz) ⟨vl, br_f hb' (nm_r (nI_1 ns) ⟨is, nm_r ((congrArg (fun k => upd s k _) es).trans (congrArg (upd s ns) nb)) (hY post hp)⟩)⟩⟩⟩⟩)⟩))
theorem ad_l1 (t fz : Int32) (w : Nat → Int32) (hw : ad_W w) : ∀ (d i ns nl : Nat) (c al s l : Nat → Int32), i + d = 8 → ad_J t i ns nl c s l → ∃ c' al' s' l' : Nat → Int32, (ad_C c' ∧ ad_V s' ∧ ad_V l') ∧ (∀ post : Int32 → SX → Prop, post t (t, 1, w, c', al', s', l') → wX_freeze_31 post t t fz (d + 1) (nI ns) (nI nl) (nI i) w c al s l) ∧ (∀ post : Int32 → SY → Prop, post t (t, 1, w, c', al', s', l') → wY_freeze_25 post t fz (d + 1) (nI ns) (nI nl) (nI i) w c al s l) := by
  intro d
  induction d with
  | zero =>
    intro i ns nl c al s l hi h
    have e : i = 8 := by omega
    subst e
    have h8 : (8 : Int32) ≤ nI 8 := by decide +kernel
    have hn : ns + nl = 8 := h.1
    obtain ⟨c', al', s', l', hg, hX, hY⟩ := ad_l2 t fz w 8 ns nl c al s l (by omega) (ad_JI h)
    exact ⟨c', al', s', l', hg, fun post hp => br_t h8 ⟨9, hX post hp⟩, fun post hp => br_t h8 ⟨9, hY post hp⟩⟩
  | succ d ih =>
    intro i ns nl c al s l hi h
    have hi8 : i < 8 := by omega
    have h8 : ¬ (8 : Int32) ≤ nI i := nI_ge (b := 8) hi8 (by decide)
    have hn : ns + nl = i := h.1
    have ii : vp_in (nI i) 8 := vp_in_nI hi8 (by omega)
    have is : vp_in (nI ns) 8 := vp_in_nI (by omega) (by omega)
    have il : vp_in (nI nl) 8 := vp_in_nI (by omega) (by omega)
    have ei : (nI i).toNatClampNeg = i := nI_clamp (by omega)
    have es : (nI ns).toNatClampNeg = ns := nI_clamp (by omega)
    have el : (nI nl).toNatClampNeg = nl := nI_clamp (by omega)
    have nb : vp_nar .byte (nI i).toInt8.toInt32 = nI i := ad_b (ad_nIr hi8)
    obtain ⟨z, hz⟩ : ∃ z : Int32, z = 8 * w i := ⟨_, rfl⟩
    have zr : 0 ≤ z.toInt ∧ z.toInt ≤ 2040 := by rw [hz]; exact ad_8w (hw i)
    have xz : upd c (nI i).toNatClampNeg (8 * w (nI i).toNatClampNeg) = upd c i z := by rw [ei, hz]
    have yz : upd c (nI i).toNatClampNeg (vp_nar .short ((w (nI i).toNatClampNeg * 8).toInt16.toInt32)) = upd c i z := by
      rw [ei, Int32.mul_comm, ← hz, ad_s zr]
    have xa : upd al (nI i).toNatClampNeg (nI i) = upd al i (nI i) := by rw [ei]
    have ya : upd al (nI i).toNatClampNeg (vp_nar .byte (nI i).toInt8.toInt32) = upd al i (nI i) := by rw [ei, nb]
    by_cases hb : t ≤ z
    · have hb' : t ≤ upd c i z (nI i).toNatClampNeg := by rw [ei, ad_us]; exact hb
      have xl : upd l (nI nl).toNatClampNeg (nI i) = upd l nl (nI i) := by rw [el]
      have yl : upd l (nI nl).toNatClampNeg (vp_nar .byte (nI i).toInt8.toInt32) = upd l nl (nI i) := by rw [el, nb]
      obtain ⟨c', al', s', l', hg, hX, hY⟩ := ih (i + 1) ns (nl + 1) (upd c i z) (upd al i (nI i)) s (upd l nl (nI i)) (by omega) (ad_JL h hi8 zr hb)
      refine ⟨c', al', s', l', hg, fun post hp => ?_, fun post hp => ?_⟩
      · exact br_f h8 ⟨ii, ii, nm_r xz ⟨ii, nm_r xa ⟨ii, br_t hb' ⟨il, nm_r xl (nm_r (nI_1 nl) (nm_r (nI_1 i) (hX post hp)))⟩⟩⟩⟩
      · exact br_f h8 ⟨ii, ii, nm_r yz ⟨ii, nm_r ya ⟨ii, br_t hb' (nm_r (nI_1 nl) ⟨il, nm_r yl (nm_r (nI_1 i) (hY post hp))⟩)⟩⟩⟩
    · have hb' : ¬ t ≤ upd c i z (nI i).toNatClampNeg := by rw [ei, ad_us]; exact hb
      have xl : upd s (nI ns).toNatClampNeg (nI i) = upd s ns (nI i) := by rw [es]
      have yl : upd s (nI ns).toNatClampNeg (vp_nar .byte (nI i).toInt8.toInt32) = upd s ns (nI i) := by rw [es, nb]
      obtain ⟨c', al', s', l', hg, hX, hY⟩ := ih (i + 1) (ns + 1) nl (upd c i z) (upd al i (nI i)) (upd s ns (nI i)) l (by omega) (ad_JS h hi8 zr hb)
      refine ⟨c', al', s', l', hg, fun post hp => ?_, fun post hp => ?_⟩
      · exact br_f h8 ⟨ii, ii, nm_r xz ⟨ii, nm_r xa ⟨ii, br_f hb' ⟨is, nm_r xl (nm_r (nI_1 ns) (nm_r (nI_1 i) (hX post hp)))⟩⟩⟩⟩
      · exact br_f h8 ⟨ii, ii, nm_r yz ⟨ii, nm_r ya ⟨ii, br_f hb' (nm_r (nI_1 ns) ⟨is, nm_r yl (nm_r (nI_1 i) (hY post hp))⟩)⟩⟩⟩
end
section
/-- the relation: both sides hold the same state; a frozen die has a total; weights, cuts and stacked indexes lie in their ranges -/
def i_Rel (_ : Nat) (u : SX) (v : SY) : Prop := ∃ (t z : Int32) (w c al s l : Nat → Int32), u = (t, z, w, c, al, s, l) ∧ v = (t, z, w, c, al, s, l) ∧ (¬ z = 0 → ¬ t = 0) ∧ ad_W w ∧ ad_C c ∧ ad_V s ∧ ad_V l
theorem i_up {k : Nat} {u : SX} {v : SY} (h : i_Rel k u v) : i_Rel (k + 3) u v := h
theorem i_vc0 : wpX_init (fun u => wpY_init (fun v => i_Rel 0 u v)) := by
  have e : (0 : Int32).toInt = 0 := by decide
  have h1 : 0 ≤ (0 : Int32).toInt ∧ (0 : Int32).toInt ≤ 255 := by rw [e]; omega
  have h2 : 0 ≤ (0 : Int32).toInt ∧ (0 : Int32).toInt ≤ 2040 := by rw [e]; omega
  have h3 : 0 ≤ (0 : Int32).toInt ∧ (0 : Int32).toInt < 8 := by rw [e]; omega
  exact ⟨0, 0, fun _ => 0, fun _ => 0, fun _ => 0, fun _ => 0, fun _ => 0, rfl, rfl, fun z => absurd rfl z, fun _ => h1, fun _ => h2, fun _ => h3, fun _ => h3⟩
theorem i_vc_setWeight {k : Nat} {u : SX} {v : SY} (I : i_Rel k u v) (hk : k + 3 ≤ 1536) (v1 : Int32) (v2 : Int32) : wpX_setWeight (fun r u' => wpY_setWeight (fun r' v' => r' = r ∧ i_Rel (k + 3) u' v') v v1 v2) u v1 v2 := by
  obtain ⟨t, z, w, c, al, s, l, rfl, rfl, hz, hw, hC, hs, hl⟩ := I
  have K : i_Rel (k + 3) (t, z, w, c, al, s, l) (t, z, w, c, al, s, l) := ⟨t, z, w, c, al, s, l, rfl, rfl, hz, hw, hC, hs, hl⟩
  by_cases h : z = 0
  · by_cases a0 : v1 < 0
    · exact br_t h (br_t a0 (br_t h (br_t a0 ⟨rfl, K⟩)))
    · by_cases a7 : v1 ≤ 7
      · by_cases b0 : v2 < 0
        · exact br_t h (br_f a0 (br_t a7 (br_t b0 (br_t h (br_f a0 (br_t a7 (br_t b0 ⟨rfl, K⟩)))))))
        · by_cases b5 : v2 ≤ 255
          · have hi : vp_in v1 8 := ad_in a0 a7
            have hv := ad_255 b0 b5
            have K' : i_Rel (k + 3) ((t - w v1.toNatClampNeg) + v2, z, upd w v1.toNatClampNeg v2, c, al, s, l) ((t - w v1.toNatClampNeg) + v2, z, upd w v1.toNatClampNeg v2, c, al, s, l) := ⟨_, z, _, c, al, s, l, rfl, rfl, fun n => absurd h n, ad_all (fun x => 0 ≤ x.toInt ∧ x.toInt ≤ 255) hw hv, hC, hs, hl⟩
            exact br_t h (br_f a0 (br_t a7 (br_f b0 (br_t b5 ⟨hi, nm_e ⟨hi, nm_e (br_t h (br_f a0 (br_t a7 (br_f b0 (br_t b5 ⟨hi, nm_e ⟨hi, nm_r (congrArg (upd w v1.toNatClampNeg) (ad_c hv)) (nm_r (ad_tot t (w v1.toNatClampNeg) v2) ⟨ad_tot t (w v1.toNatClampNeg) v2, K'⟩)⟩⟩)))))⟩⟩))))
          · exact br_t h (br_f a0 (br_t a7 (br_f b0 (br_f b5 (br_t h (br_f a0 (br_t a7 (br_f b0 (br_f b5 ⟨rfl, K⟩)))))))))
      · exact br_t h (br_f a0 (br_f a7 (br_t h (br_f a0 (br_f a7 ⟨rfl, K⟩)))))
  · exact br_f h (br_f h ⟨rfl, K⟩)
theorem i_vc_freeze {k : Nat} {u : SX} {v : SY} (I : i_Rel k u v) (hk : k + 3 ≤ 1536) : wpX_freeze (fun r u' => wpY_freeze (fun r' v' => r' = r ∧ i_Rel (k + 3) u' v') v) u := by
  obtain ⟨t, z, w, c, al, s, l, rfl, rfl, hz, hw, hC, hs, hl⟩ := I
  have K : i_Rel (k + 3) (t, z, w, c, al, s, l) (t, z, w, c, al, s, l) := ⟨t, z, w, c, al, s, l, rfl, rfl, hz, hw, hC, hs, hl⟩
  by_cases h : z = 0
  · by_cases h0 : t = 0
    · exact br_t h (br_t h0 (br_t h (br_t h0 ⟨rfl, K⟩)))
    · obtain ⟨c', al', s', l', hg, hX, hY⟩ := ad_l1 t z w hw 8 0 0 0 c al s l rfl (ad_J0 hC hs hl)
      rw [nI_0] at hX hY
      have K' : i_Rel (k + 3) (t, 1, w, c', al', s', l') (t, 1, w, c', al', s', l') := ⟨t, 1, w, c', al', s', l', rfl, rfl, fun _ => h0, hw, hg.1, hg.2.1, hg.2.2⟩
      exact br_t h (br_f h0 ⟨9, hX _ (br_t h (br_f h0 ⟨9, hY _ ⟨rfl, K'⟩⟩))⟩)
  · exact br_f h (br_f h ⟨rfl, K⟩)
theorem i_vc_roll {k : Nat} {u : SX} {v : SY} (I : i_Rel k u v) (hk : k + 3 ≤ 1536) (v1 : Int32) : wpX_roll (fun r => wpY_roll (fun r' => r' = r ∧ i_Rel (k + 3) u v) v v1) u v1 := by
  obtain ⟨t, z, w, c, al, s, l, rfl, rfl, hz, hw, hC, hs, hl⟩ := I
  have K : i_Rel (k + 3) (t, z, w, c, al, s, l) (t, z, w, c, al, s, l) := ⟨t, z, w, c, al, s, l, rfl, rfl, hz, hw, hC, hs, hl⟩
  by_cases h : z = 0
  · exact br_t h (br_t h ⟨rfl, K⟩)
  · have h0 := hz h
    have hi := ad_and v1
    refine br_f h (nm_e ⟨h0, nm_e ⟨hi, br_c (fun g => ⟨hi, ?_⟩) (fun g => ?_)⟩⟩)
    · exact br_f h (nm_e ⟨h0, nm_e ⟨hi, br_t g ⟨hi, rfl, K⟩⟩⟩)
    · exact br_f h (nm_e ⟨h0, nm_e ⟨hi, br_f g ⟨rfl, K⟩⟩⟩)
theorem i_vc_cell {k : Nat} {u : SX} {v : SY} (I : i_Rel k u v) (hk : k + 3 ≤ 1536) (v1 : Int32) : wpX_cell (fun r => wpY_cell (fun r' => r' = r ∧ i_Rel (k + 3) u v) v v1) u v1 := by
  obtain ⟨t, z, w, c, al, s, l, rfl, rfl, hz, hw, hC, hs, hl⟩ := I
  have K : i_Rel (k + 3) (t, z, w, c, al, s, l) (t, z, w, c, al, s, l) := ⟨t, z, w, c, al, s, l, rfl, rfl, hz, hw, hC, hs, hl⟩
  by_cases a0 : v1 < 0
  · exact br_t a0 (br_t a0 ⟨rfl, K⟩)
  · by_cases a7 : v1 ≤ 7
    · have hi : vp_in v1 8 := ad_in a0 a7
      exact br_f a0 (br_t a7 ⟨hi, hi, hi, br_f a0 (br_t a7 ⟨hi, hi, hi, rfl, K⟩)⟩)
    · exact br_f a0 (br_f a7 (br_f a0 (br_f a7 ⟨rfl, K⟩)))
end
