section
/-! rows taken from kit/rows (starting texts): stores, masks, the char cast -/
theorem pk_us {f : Nat → Int32} {k : Nat} {x : Int32} : upd f k x k = x := if_pos rfl
theorem pk_un {f : Nat → Int32} {k j : Nat} {x : Int32} (h : j ≠ k) : upd f k x j = f j := if_neg h
theorem pk_tn {n : Nat} (h : n < 2 ^ 32) : (nI n).toBitVec.toNat = n := Nat.mod_eq_of_lt h
theorem pk_and (x : Int32) {m : Int32} (k : Nat) (hm : m.toBitVec.toNat = 2 ^ k - 1) : x &&& m = nI (x.toBitVec.toNat % 2 ^ k) := by
  apply Int32.toBitVec_inj.mp
  apply BitVec.eq_of_toNat_eq
  rw [Int32.toBitVec_and, BitVec.toNat_and, hm, Nat.and_two_pow_sub_one_eq_mod]
  show _ = (BitVec.ofNat 32 _).toNat
  rw [BitVec.toNat_ofNat]
  exact (Nat.mod_eq_of_lt (Nat.lt_of_le_of_lt (Nat.mod_le _ _) x.toBitVec.isLt)).symm
theorem pk_andE (x : Int32) {m : Int32} (k : Nat) (hm : m.toBitVec.toNat = 2 ^ k - 1) : ∃ j : Nat, j < 2 ^ k ∧ x &&& m = nI j := ⟨_, Nat.mod_lt _ (Nat.two_pow_pos k), pk_and x k hm⟩
theorem pk_charN {q : Nat} (hq : q < 65536) : narrow .char (.int (nI q)) = .int (nI q) ∧ fits .char (.int (nI q)) = true := by
  constructor
  · have e : (nI q).toUInt32.toUInt16.toUInt32.toInt32 = nI q := by
      apply Int32.toBitVec_inj.mp
      apply BitVec.eq_of_toNat_eq
      show (nI q).toUInt32.toUInt16.toUInt32.toNat = q % 2 ^ 32
      rw [UInt16.toNat_toUInt32, UInt32.toNat_toUInt16, show (nI q).toUInt32.toNat = q % 2 ^ 32 from rfl]
      omega
    exact congrArg Value.int e
  · have a : (0 : Int32) ≤ nI q := nI_pos' (by omega)
    have b : nI q ≤ 65535 := nI_le (b := 65535) (by omega) (by decide)
    show (decide ((0 : Int32) ≤ nI q) && decide (nI q ≤ 65535)) = true
    rw [decide_eq_true a, decide_eq_true b]
    rfl
theorem pk_char (x : Int32) : (x.toUInt32 % 65536).toInt32 = nI (x.toBitVec.toNat % 65536) := by
  apply Int32.toBitVec_inj.mp
  apply BitVec.eq_of_toNat_eq
  rw [pk_tn (by omega)]
  show (x.toUInt32 % 65536).toNat = _
  rw [UInt32.toNat_mod]
  rfl
theorem pk_nc (x : Int32) : narrow .char (.int (x.toUInt32 % 65536).toInt32) = .int (x.toUInt32 % 65536).toInt32 := by
  rw [pk_char]
  exact (pk_charN (Nat.mod_lt _ (by decide))).1
theorem pk_vb (z : Int32) : vp_nar .byte z.toInt8.toInt32 = z.toInt8.toInt32 := by rw [vp_nar_byte]; simp
theorem pk_vs (z : Int32) : vp_nar .short z.toInt16.toInt32 = z.toInt16.toInt32 := by rw [vp_nar_short]; simp
theorem pk_vc (z : Int32) : vp_nar .char (z.toUInt32 % 65536).toInt32 = (z.toUInt32 % 65536).toInt32 := Value.int.inj (pk_nc z)
theorem nx_and (a b : Nat) : nI a &&& nI b = nI (a &&& b) := by
  apply Int32.toBitVec_inj.1
  show BitVec.ofNat 32 a &&& BitVec.ofNat 32 b = BitVec.ofNat 32 (a &&& b)
  apply BitVec.eq_of_getLsbD_eq
  intro i hi
  simp [hi]
theorem nx_mod (k : Nat) : nI k &&& 65535 = nI (k % 65536) := by
  show nI k &&& nI 65535 = _
  rw [nx_and, show (65535 : Nat) = 2 ^ 16 - 1 from rfl, Nat.and_two_pow_sub_one_eq_mod]
theorem nx_m16 {k : Nat} (h : k < 65536) : nI k &&& 65535 = nI k := by rw [nx_mod, Nat.mod_eq_of_lt h]
theorem nx_mask (x : Int32) : ∃ k, k < 65536 ∧ x &&& 65535 = nI k := by
  have e : x = nI x.toBitVec.toNat := by
    apply Int32.toBitVec_inj.1
    show x.toBitVec = BitVec.ofNat 32 x.toBitVec.toNat
    simp
  refine ⟨x.toBitVec.toNat % 65536, Nat.mod_lt _ (by omega), ?_⟩
  rw [← nx_mod, ← e]
theorem em_w (v : Int32) : ∃ w : Nat, w < 65536 ∧ (v.toUInt32 % 65536).toInt32 = nI w ∧ v &&& 65535 = nI w := by
  have hr := lw_u16_r v
  have h0 : (0 : Int32).toInt = 0 := by decide
  obtain ⟨w, h1, h2⟩ := nI_of (x := lw_u16 v) (by rw [Int32.lt_iff_toInt_lt]; omega)
  have h3 : (v.toUInt32 % 65536).toInt32 = nI w := h2
  rw [h2, nI_toInt h1] at hr
  exact ⟨w, by omega, h3, by rw [← lg_i2c_mask, ← lg_i2c_nf, h3]⟩
/-! own rows: the short cast under 65535, small bytes, the constructor's bound -/
theorem nr_sh (x : Int32) : x.toInt16.toInt32 &&& 65535 = x &&& 65535 := by
  apply Int32.toBitVec_inj.mp
  rw [Int32.toBitVec_and, Int32.toBitVec_and, Int16.toBitVec_toInt32, Int32.toBitVec_toInt16]
  apply BitVec.eq_of_getLsbD_eq
  intro i hi
  rw [BitVec.getLsbD_and, BitVec.getLsbD_and]
  have hm : ∀ i < 32, 16 ≤ i → (65535 : Int32).toBitVec.getLsbD i = false := by decide
  rcases Nat.lt_or_ge i 16 with z | z
  · rw [BitVec.getLsbD_signExtend, BitVec.getLsbD_signExtend, if_pos z, if_pos hi]
    simp only [z, hi, decide_true, Bool.true_and]
  · rw [hm i hi z]; simp
/-- what the reference's short holds under 65535 is the member's low half -/
theorem nr_ent (x : Int32) : vp_nar .short x.toInt16.toInt32 &&& 65535 = x &&& 65535 := by
  rw [pk_vs, nr_sh]
/-- the component's char of the masked member is the masked member -/
theorem nr_sto (x : Int32) : vp_nar .char (((x &&& 65535).toUInt32 % 65536).toInt32) = x &&& 65535 := by
  obtain ⟨w, hw, e⟩ := nx_mask x
  obtain ⟨z, hz, e1, e2⟩ := em_w (x &&& 65535)
  rw [pk_vc, e1, ← e2, e, nx_m16 hw]
theorem nr_chr (x : Int32) : vp_nar .char ((x.toUInt32 % 65536).toInt32) = x &&& 65535 := by
  obtain ⟨z, hz, e1, e2⟩ := em_w x
  rw [pk_vc, e1, ← e2]
theorem nr_cnt1 {c : Nat} (hc : c < 65535) : vp_nar .char (((nI c + 1).toUInt32 % 65536).toInt32) = nI (c + 1) := by
  rw [nr_chr, nI_1, nx_m16 (by omega)]
theorem nr_by8 : ∀ o, o < 8 → (nI o).toInt8.toInt32 = nI o := by decide +kernel
theorem nr_byt {o : Nat} (ho : o < 8) : vp_nar .byte (nI o).toInt8.toInt32 = nI o := by
  rw [pk_vb]
  exact nr_by8 o ho
theorem nr_b0 : vp_nar .boolean 0 = 0 := rfl
theorem nr_and7 (x : Int32) : ∃ c : Nat, c ≤ 11 ∧ 4 + (x &&& 7) = nI c := by
  obtain ⟨j, hj, e⟩ := pk_andE x (m := 7) 3 (by decide)
  refine ⟨4 + j, by omega, ?_⟩
  rw [e, ← nI_add]
  rfl
theorem nr_7 {c : Nat} (h : c < 8) : nI c ≤ 7 := nI_le (b := 7) (by omega) (by decide)
theorem nr_n7 {c : Nat} (h : 8 ≤ c) (hc : c < 2 ^ 31) : ¬ nI c ≤ 7 := nI_ge (a := 7) (by omega) hc
theorem nr_ne {c : Nat} (h : c < 2 ^ 31) : ¬ nI c = -1 := by
  intro e
  have p := nI_pos h
  rw [e] at p
  exact p (by decide)
/-- an int between 0 and 7 -/
theorem nr_ix {p : Int32} (h0 : ¬ p < 0) (h7 : p ≤ 7) : ∃ c : Nat, c < 8 ∧ p = nI c := by
  obtain ⟨j, hj, e⟩ := nI_of2 (M := 7) (n := 7) (by decide) h0 h7
  exact ⟨j, by omega, e⟩
end
section
/-- what both states keep: the journal's bounds, the kinds, the host indices, the counts, and of each journal entry its owner -/
def nr_I (cap used : Nat) (kinds hostVal counts owner entry : Nat → Int32) : Prop :=
  cap ≤ 11 ∧ used ≤ cap ∧
  (∀ j, j < 8 → kinds j = 0 ∨ kinds j = 1 ∨ kinds j = 2) ∧
  (∀ j, ∃ w : Nat, w < 65536 ∧ hostVal j = nI w) ∧
  (∀ j, ∃ c : Nat, c ≤ used ∧ counts j = nI c) ∧
  (∀ i, i < used → ∃ o : Nat, o < 8 ∧ owner i = nI o ∧ ¬ counts o = 0 ∧ ¬ entry i &&& 65535 = nI o)
section
variable {cap used : Nat} {kinds : Nat → Int32} {keys : Nat → Int64} {hasHost hostVal counts owner entry : Nat → Int32}
/-- both scans for a journal entry (x2, x1), in lockstep -/
theorem nr_scan (x1 x2 : Int32) (hu : used ≤ 11) : ∀ d i : Nat, i + d = used → ∃ r : Int32, (r = x1 ∨ r = x2) ∧ ((∀ j, j < used → ¬ owner j = x2) → r = x1) ∧
    (∀ post : Int32 → Prop, post r → wX_hostOf_90 post x1 x2 (nI cap) (nI used) kinds keys hasHost hostVal counts (fun j => entry j &&& 65535) owner (d + 1) (nI i)) ∧
    (∀ post : Int32 → Prop, post r → wY_nestHostOf_104 post x1 x2 (nI cap) (nI used) owner entry counts hostVal hasHost kinds keys (d + 1) (nI i)) := by
  intro d
  induction d with
  | zero =>
    intro i hi
    have h : nI used ≤ nI i := nI_le (by omega) (by omega)
    exact ⟨x1, Or.inl rfl, fun _ => rfl, fun _ hp => br_t h hp, fun _ hp => br_t h hp⟩
  | succ d ih =>
    intro i hi
    have h : ¬ nI used ≤ nI i := nI_ge (by omega) (by omega)
    have hin : vp_in (nI i) 11 := vp_in_nI (by omega) (by omega)
    have hcl : (nI i).toNatClampNeg = i := nI_clamp (by omega)
    obtain ⟨r, hr, hn, hX, hY⟩ := ih (i + 1) (by omega)
    by_cases z : owner (nI i).toNatClampNeg = x2
    · by_cases w : entry (nI i).toNatClampNeg &&& 65535 = x1
      · refine ⟨x2, Or.inr rfl, fun H => ?_, fun post hp => br_f h ⟨hin, br_t z ⟨hin, br_t w hp⟩⟩, fun post hp => br_f h ⟨hin, br_t z ⟨hin, br_t w hp⟩⟩⟩
        rw [hcl] at z
        exact absurd z (H i (by omega))
      · exact ⟨r, hr, hn, fun post hp => br_f h ⟨hin, br_t z ⟨hin, br_f w (nm_r (nI_1 i) (hX post hp))⟩⟩, fun post hp => br_f h ⟨hin, br_t z ⟨hin, br_f w (nm_r (nI_1 i) (hY post hp))⟩⟩⟩
    · exact ⟨r, hr, hn, fun post hp => br_f h ⟨hin, br_f z (nm_r (nI_1 i) (hX post hp))⟩, fun post hp => br_f h ⟨hin, br_f z (nm_r (nI_1 i) (hY post hp))⟩⟩
/-- the host of a number whose kind is not 0 -/
theorem nr_host (I : nr_I cap used kinds hostVal counts owner entry) {c : Nat} (hc : c < 8) (hk : ¬ kinds c = 0) : ∃ h : Nat, h < 8 ∧ ¬ kinds h = 0 ∧ (kinds h = 2 → h = c) ∧
    (∀ post : Int32 → Prop, post (nI h) → wpX_hostOf post (nI cap, nI used, kinds, keys, hasHost, hostVal, counts, (fun j => entry j &&& 65535), owner) (nI c)) ∧
    (∀ post : Int32 → Prop, post (nI h) → wpY_nestHostOf post (nI cap, nI used, owner, entry, counts, hostVal, hasHost, kinds, keys) (nI c)) := by
  obtain ⟨hcap, huse, hkd, hhv, hct, how⟩ := I
  have hcl : (nI c).toNatClampNeg = c := nI_clamp (by omega)
  have hin : vp_in (nI c) 8 := vp_in_nI hc (by omega)
  have n0 : ¬ nI c < 0 := nI_pos (by omega)
  have n7 : nI c ≤ 7 := nr_7 hc
  have k0 : ¬ kinds (nI c).toNatClampNeg = 0 := by rw [hcl]; exact hk
  by_cases k1 : kinds (nI c).toNatClampNeg = 1
  · have k2 : ¬ kinds (nI c).toNatClampNeg = 2 := by rw [k1]; decide
    by_cases hh : hasHost (nI c).toNatClampNeg = 0
    · exact ⟨c, hc, hk, fun _ => rfl, fun post hp => And.intro hin (br_t k1 ⟨hin, br_t hh hp⟩), fun post hp => br_f n0 (br_t n7 ⟨hin, br_f k0 ⟨hin, br_f k2 ⟨hin, br_t hh hp⟩⟩⟩)⟩
    · obtain ⟨w, hw, ew⟩ := hhv (nI c).toNatClampNeg
      by_cases w8 : w < 8
      · have wcl : (nI w).toNatClampNeg = w := nI_clamp (by omega)
        have win : vp_in (nI w) 8 := vp_in_nI w8 (by omega)
        have w7 : nI w ≤ 7 := nr_7 w8
        by_cases kw : kinds (nI w).toNatClampNeg = 0
        · exact ⟨c, hc, hk, fun _ => rfl,
            fun post hp => And.intro hin (br_t k1 ⟨hin, br_f hh ⟨hin, nm_r ew (br_t w7 ⟨win, br_t kw hp⟩)⟩⟩),
            fun post hp => br_f n0 (br_t n7 ⟨hin, br_f k0 ⟨hin, br_f k2 ⟨hin, br_f hh ⟨hin, nm_r ew (br_t w7 ⟨win, br_t kw hp⟩)⟩⟩⟩⟩)⟩
        · by_cases kk : keys (nI w).toNatClampNeg = keys (nI c).toNatClampNeg
          · by_cases kt : kinds (nI w).toNatClampNeg = 2
            · exact ⟨c, hc, hk, fun _ => rfl,
                fun post hp => And.intro hin (br_t k1 ⟨hin, br_f hh ⟨hin, nm_r ew (br_t w7 ⟨win, br_f kw ⟨win, hin, br_t kk ⟨win, br_t kt hp⟩⟩⟩)⟩⟩),
                fun post hp => br_f n0 (br_t n7 ⟨hin, br_f k0 ⟨hin, br_f k2 ⟨hin, br_f hh ⟨hin, nm_r ew (br_t w7 ⟨win, br_f kw ⟨win, hin, br_t kk ⟨win, br_t kt hp⟩⟩⟩)⟩⟩⟩⟩)⟩
            · obtain ⟨r, hr, hn, sX, sY⟩ := nr_scan (cap := cap) (used := used) (kinds := kinds) (keys := keys) (hasHost := hasHost) (hostVal := hostVal) (counts := counts) (owner := owner) (entry := entry) (nI c) (nI w) (by omega) used 0 (by omega)
              rw [nI_0] at sX sY
              by_cases cw : counts (nI w).toNatClampNeg = 0
              · have er : r = nI c := by
                  apply hn
                  intro j hj e
                  obtain ⟨o, ho, eo, co, _⟩ := how j hj
                  rw [eo, nI_eq (by omega) (by omega)] at e
                  rw [e, ← wcl] at co
                  exact co cw
                subst er
                exact ⟨c, hc, hk, fun _ => rfl,
                  fun post hp => And.intro hin (br_t k1 ⟨hin, br_f hh ⟨hin, nm_r ew (br_t w7 ⟨win, br_f kw ⟨win, hin, br_t kk ⟨win, br_f kt ⟨win, br_t cw hp⟩⟩⟩⟩)⟩⟩),
                  fun post hp => br_f n0 (br_t n7 ⟨hin, br_f k0 ⟨hin, br_f k2 ⟨hin, br_f hh ⟨hin, nm_r ew (br_t w7 ⟨win, br_f kw ⟨win, hin, br_t kk ⟨win, br_f kt ⟨_, sY post hp⟩⟩⟩⟩)⟩⟩⟩⟩)⟩
              · have GX : ∀ post : Int32 → Prop, post r → wpX_hostOf post (nI cap, nI used, kinds, keys, hasHost, hostVal, counts, (fun j => entry j &&& 65535), owner) (nI c) :=
                  fun post hp => And.intro hin (br_t k1 ⟨hin, br_f hh ⟨hin, nm_r ew (br_t w7 ⟨win, br_f kw ⟨win, hin, br_t kk ⟨win, br_f kt ⟨win, br_f cw ⟨_, sX post hp⟩⟩⟩⟩⟩)⟩⟩)
                have GY : ∀ post : Int32 → Prop, post r → wpY_nestHostOf post (nI cap, nI used, owner, entry, counts, hostVal, hasHost, kinds, keys) (nI c) :=
                  fun post hp => br_f n0 (br_t n7 ⟨hin, br_f k0 ⟨hin, br_f k2 ⟨hin, br_f hh ⟨hin, nm_r ew (br_t w7 ⟨win, br_f kw ⟨win, hin, br_t kk ⟨win, br_f kt ⟨_, sY post hp⟩⟩⟩⟩)⟩⟩⟩⟩)
                rw [wcl] at kw kt
                rcases hr with er | er
                · subst er
                  exact ⟨c, hc, hk, fun _ => rfl, GX, GY⟩
                · subst er
                  exact ⟨w, w8, kw, fun e => absurd e kt, GX, GY⟩
          · exact ⟨c, hc, hk, fun _ => rfl,
              fun post hp => And.intro hin (br_t k1 ⟨hin, br_f hh ⟨hin, nm_r ew (br_t w7 ⟨win, br_f kw ⟨win, hin, br_f kk hp⟩⟩)⟩⟩),
              fun post hp => br_f n0 (br_t n7 ⟨hin, br_f k0 ⟨hin, br_f k2 ⟨hin, br_f hh ⟨hin, nm_r ew (br_t w7 ⟨win, br_f kw ⟨win, hin, br_f kk hp⟩⟩)⟩⟩⟩⟩)⟩
      · have w7 : ¬ nI w ≤ 7 := nr_n7 (by omega) (by omega)
        exact ⟨c, hc, hk, fun _ => rfl,
          fun post hp => And.intro hin (br_t k1 ⟨hin, br_f hh ⟨hin, nm_r ew (br_f w7 hp)⟩⟩),
          fun post hp => br_f n0 (br_t n7 ⟨hin, br_f k0 ⟨hin, br_f k2 ⟨hin, br_f hh ⟨hin, nm_r ew (br_f w7 hp)⟩⟩⟩⟩)⟩
  · have k2 : kinds (nI c).toNatClampNeg = 2 := by
      rw [hcl] at k1 ⊢
      rcases hkd c hc with e | e | e
      · exact absurd e hk
      · exact absurd e k1
      · exact e
    exact ⟨c, hc, hk, fun _ => rfl, fun post hp => And.intro hin (br_f k1 hp), fun post hp => br_f n0 (br_t n7 ⟨hin, br_f k0 ⟨hin, br_t k2 hp⟩⟩)⟩
/-- nestHostOf, any argument -/
theorem nr_nest (I : nr_I cap used kinds hostVal counts owner entry) (p : Int32) : ∃ r : Int32, (r = -1 ∨ ∃ h : Nat, h < 8 ∧ r = nI h ∧ ¬ kinds h = 0) ∧
    (∀ post : Int32 → Prop, post r → wpX_nestHostOf post (nI cap, nI used, kinds, keys, hasHost, hostVal, counts, (fun j => entry j &&& 65535), owner) p) ∧
    (∀ post : Int32 → Prop, post r → wpY_nestHostOf post (nI cap, nI used, owner, entry, counts, hostVal, hasHost, kinds, keys) p) := by
  by_cases n0 : p < 0
  · exact ⟨-1, Or.inl rfl, fun post hp => br_t n0 hp, fun post hp => br_t n0 hp⟩
  · by_cases n7 : p ≤ 7
    · obtain ⟨c, hc, rfl⟩ := nr_ix n0 n7
      have hcl : (nI c).toNatClampNeg = c := nI_clamp (by omega)
      have hin : vp_in (nI c) 8 := vp_in_nI hc (by omega)
      by_cases k0 : kinds (nI c).toNatClampNeg = 0
      · exact ⟨-1, Or.inl rfl, fun post hp => br_f n0 (br_t n7 ⟨hin, br_t k0 hp⟩), fun post hp => br_f n0 (br_t n7 ⟨hin, br_t k0 hp⟩)⟩
      · obtain ⟨h, hh, kh, _, hX, hY⟩ := nr_host (keys := keys) (hasHost := hasHost) I hc (by rw [hcl] at k0; exact k0)
        exact ⟨nI h, Or.inr ⟨h, hh, rfl, kh⟩, fun post hp => br_f n0 (br_t n7 ⟨hin, br_f k0 (hX post hp)⟩), hY⟩
    · exact ⟨-1, Or.inl rfl, fun post hp => br_f n0 (br_f n7 hp), fun post hp => br_f n0 (br_f n7 hp)⟩
/-- the member test of a journal entry: X's valid, and what Y asks of nestHostOf -/
theorem nr_valid (I : nr_I cap used kinds hostVal counts owner entry) {i h : Nat} (hi : i < used) (hh : h < 8) :
    (¬ owner i = nI h ∧ ∀ post : Int32 → Prop, post 0 → wpX_valid post (nI cap, nI used, kinds, keys, hasHost, hostVal, counts, (fun j => entry j &&& 65535), owner) (nI i) (nI h)) ∨
    (owner i = nI h ∧ ∃ q : Int32, ¬ q = nI h ∧
      (∀ post : Int32 → Prop, post 0 → wpX_valid post (nI cap, nI used, kinds, keys, hasHost, hostVal, counts, (fun j => entry j &&& 65535), owner) (nI i) (nI h)) ∧
      (∀ post : Int32 → Prop, post q → wpY_nestHostOf post (nI cap, nI used, owner, entry, counts, hostVal, hasHost, kinds, keys) (entry i &&& 65535))) ∨
    (owner i = nI h ∧ ¬ kinds h = 2 ∧
      (∀ post : Int32 → Prop, post 1 → wpX_valid post (nI cap, nI used, kinds, keys, hasHost, hostVal, counts, (fun j => entry j &&& 65535), owner) (nI i) (nI h)) ∧
      (∀ post : Int32 → Prop, post (nI h) → wpY_nestHostOf post (nI cap, nI used, owner, entry, counts, hostVal, hasHost, kinds, keys) (entry i &&& 65535))) := by
  have I' := I
  obtain ⟨hcap, huse, hkd, hhv, hct, how⟩ := I'
  have icl : (nI i).toNatClampNeg = i := nI_clamp (by omega)
  have iin : vp_in (nI i) 11 := vp_in_nI (by omega) (by omega)
  by_cases ow : owner i = nI h
  · have ow' : owner (nI i).toNatClampNeg = nI h := by rw [icl]; exact ow
    obtain ⟨e, he, ee⟩ := nx_mask (entry i)
    have ee' : (fun j => entry j &&& 65535) (nI i).toNatClampNeg = nI e := by
      show entry (nI i).toNatClampNeg &&& 65535 = nI e
      rw [icl]; exact ee
    have eh : ¬ e = h := by
      intro z
      obtain ⟨o, ho, eo, _, ne⟩ := how i hi
      rw [ee, z, ← ow, eo] at ne
      exact ne rfl
    have m1 : ¬ (-1 : Int32) = nI h := fun z => nr_ne (by omega) z.symm
    have n0 : ¬ nI e < 0 := nI_pos (by omega)
    rw [ee]
    by_cases e8 : e < 8
    · have e7 : nI e ≤ 7 := nr_7 e8
      have ecl : (nI e).toNatClampNeg = e := nI_clamp (by omega)
      have ein : vp_in (nI e) 8 := vp_in_nI e8 (by omega)
      by_cases k0 : kinds (nI e).toNatClampNeg = 0
      · exact Or.inr (Or.inl ⟨ow, -1, m1,
          fun post hp => And.intro iin (br_t ow' ⟨iin, nm_r ee' (br_t e7 ⟨ein, br_t k0 hp⟩)⟩),
          fun post hp => br_f n0 (br_t e7 ⟨ein, br_t k0 hp⟩)⟩)
      · obtain ⟨g, hg, kg, k2, hX, hY⟩ := nr_host (keys := keys) (hasHost := hasHost) I e8 (by rw [ecl] at k0; exact k0)
        by_cases gh : g = h
        · subst gh
          exact Or.inr (Or.inr ⟨ow, fun z => eh (k2 z).symm,
            fun post hp => And.intro iin (br_t ow' ⟨iin, nm_r ee' (br_t e7 ⟨ein, br_f k0 (hX _ (br_t rfl hp))⟩)⟩), hY⟩)
        · have gn : ¬ nI g = nI h := by
            rw [nI_eq (by omega) (by omega)]; exact gh
          exact Or.inr (Or.inl ⟨ow, nI g, gn,
            fun post hp => And.intro iin (br_t ow' ⟨iin, nm_r ee' (br_t e7 ⟨ein, br_f k0 (hX _ (br_f gn hp))⟩)⟩), hY⟩)
    · have e7 : ¬ nI e ≤ 7 := nr_n7 (by omega) (by omega)
      exact Or.inr (Or.inl ⟨ow, -1, m1,
        fun post hp => And.intro iin (br_t ow' ⟨iin, nm_r ee' (br_f e7 hp)⟩),
        fun post hp => br_f n0 (br_f e7 hp)⟩)
  · have ow' : ¬ owner (nI i).toNatClampNeg = nI h := by rw [icl]; exact ow
    exact Or.inl ⟨ow, fun post hp => And.intro iin (br_f ow' hp)⟩
/-- both counting loops, in lockstep -/
theorem nr_count (I : nr_I cap used kinds hostVal counts owner entry) {h : Nat} (hh : h < 8) : ∀ (d i : Nat) (m : Int32), i + d = used → ∃ r : Int32, (kinds h = 2 → r = m) ∧
    (∀ post : Int32 → Prop, post r → wX_nestMemberCount_28 post (nI h) (nI cap) (nI used) kinds keys hasHost hostVal counts (fun j => entry j &&& 65535) owner (d + 1) m (nI i)) ∧
    (∀ post : Int32 → Prop, post r → wY_nestMemberCount_17 post (nI h) (nI cap) (nI used) owner entry counts hostVal hasHost kinds keys (d + 1) m (nI i)) := by
  have hu : used ≤ 11 := Nat.le_trans I.2.1 I.1
  intro d
  induction d with
  | zero =>
    intro i m hi
    have l : nI used ≤ nI i := nI_le (by omega) (by omega)
    exact ⟨m, fun _ => rfl, fun _ hp => br_t l hp, fun _ hp => br_t l hp⟩
  | succ d ih =>
    intro i m hi
    have l : ¬ nI used ≤ nI i := nI_ge (by omega) (by omega)
    have iin : vp_in (nI i) 11 := vp_in_nI (by omega) (by omega)
    have icl : (nI i).toNatClampNeg = i := nI_clamp (by omega)
    rcases nr_valid (keys := keys) (hasHost := hasHost) I (i := i) (h := h) (by omega) hh with ⟨ow, vX⟩ | ⟨ow, q, qn, vX, vY⟩ | ⟨ow, k2, vX, vY⟩
    · obtain ⟨r, hr, hX, hY⟩ := ih (i + 1) m (by omega)
      rw [← icl] at ow
      exact ⟨r, hr, fun post hp => br_f l (vX _ (br_t rfl (nm_r (nI_1 i) (hX post hp)))), fun post hp => br_f l ⟨iin, br_f ow (nm_r (nI_1 i) (hY post hp))⟩⟩
    · obtain ⟨r, hr, hX, hY⟩ := ih (i + 1) m (by omega)
      rw [← icl] at ow vY
      exact ⟨r, hr, fun post hp => br_f l (vX _ (br_t rfl (nm_r (nI_1 i) (hX post hp)))), fun post hp => br_f l ⟨iin, br_t ow ⟨iin, vY _ (br_f qn (nm_r (nI_1 i) (hY post hp)))⟩⟩⟩
    · obtain ⟨r, hr, hX, hY⟩ := ih (i + 1) (m + 1) (by omega)
      rw [← icl] at ow vY
      exact ⟨r, fun z => absurd z k2, fun post hp => br_f l (vX _ (br_f (by decide) (nm_e (nm_r (nI_1 i) (hX post hp))))), fun post hp => br_f l ⟨iin, br_t ow ⟨iin, vY _ (br_t rfl (nm_e (nm_r (nI_1 i) (hY post hp))))⟩⟩⟩
/-- both loops of nestMemberAt, in lockstep; X's counter is one ahead -/
theorem nr_at (I : nr_I cap used kinds hostVal counts owner entry) {h : Nat} (hh : h < 8) (k : Int32) : ∀ (d i : Nat) (m : Int32), i + d = used → ∃ r : Int32, (kinds h = 2 → r = -1) ∧
    (∀ post : Int32 → Prop, post r → wX_nestMemberAt_43 post k (nI h) (nI cap) (nI used) kinds keys hasHost hostVal counts (fun j => entry j &&& 65535) owner (d + 1) (m + 1) (nI i)) ∧
    (∀ post : Int32 → Prop, post r → wY_nestMemberAt_28 post k (nI h) (nI cap) (nI used) owner entry counts hostVal hasHost kinds keys (d + 1) m (nI i)) := by
  have hu : used ≤ 11 := Nat.le_trans I.2.1 I.1
  intro d
  induction d with
  | zero =>
    intro i m hi
    have l : nI used ≤ nI i := nI_le (by omega) (by omega)
    exact ⟨-1, fun _ => rfl, fun _ hp => br_t l hp, fun _ hp => br_t l hp⟩
  | succ d ih =>
    intro i m hi
    have l : ¬ nI used ≤ nI i := nI_ge (by omega) (by omega)
    have iin : vp_in (nI i) 11 := vp_in_nI (by omega) (by omega)
    have icl : (nI i).toNatClampNeg = i := nI_clamp (by omega)
    rcases nr_valid (keys := keys) (hasHost := hasHost) I (i := i) (h := h) (by omega) hh with ⟨ow, vX⟩ | ⟨ow, q, qn, vX, vY⟩ | ⟨ow, k2, vX, vY⟩
    · obtain ⟨r, hr, hX, hY⟩ := ih (i + 1) m (by omega)
      rw [← icl] at ow
      exact ⟨r, hr, fun post hp => br_f l (vX _ (br_t rfl (nm_r (nI_1 i) (hX post hp)))), fun post hp => br_f l ⟨iin, nm_e ⟨iin, br_f ow (nm_r (nI_1 i) (hY post hp))⟩⟩⟩
    · obtain ⟨r, hr, hX, hY⟩ := ih (i + 1) m (by omega)
      rw [← icl] at ow vY
      exact ⟨r, hr, fun post hp => br_f l (vX _ (br_t rfl (nm_r (nI_1 i) (hX post hp)))), fun post hp => br_f l ⟨iin, nm_e ⟨iin, br_t ow (vY _ (br_f qn (nm_r (nI_1 i) (hY post hp))))⟩⟩⟩
    · rw [← icl] at ow vY
      by_cases mk : m + 1 = k
      · exact ⟨entry (nI i).toNatClampNeg &&& 65535, fun z => absurd z k2, fun post hp => br_f l (vX _ (br_f (by decide) (br_t mk ⟨iin, hp⟩))), fun post hp => br_f l ⟨iin, nm_e ⟨iin, br_t ow (vY _ (br_t rfl (nm_e (br_t mk hp))))⟩⟩⟩
      · obtain ⟨r, hr, hX, hY⟩ := ih (i + 1) (m + 1) (by omega)
        exact ⟨r, fun z => absurd z k2, fun post hp => br_f l (vX _ (br_f (by decide) (br_f mk (nm_e (nm_r (nI_1 i) (hX post hp)))))), fun post hp => br_f l ⟨iin, nm_e ⟨iin, br_t ow (vY _ (br_t rfl (nm_e (br_f mk (nm_r (nI_1 i) (hY post hp))))))⟩⟩⟩
end
end
section
/-- the relation: both sides hold the same tables; X's store is the low half of Y's entries -/
def i_Rel (k : Nat) (u : SX) (v : SY) : Prop :=
  ∃ (cap used : Nat) (kinds : Nat → Int32) (keys : Nat → Int64) (hasHost hostVal counts owner entry : Nat → Int32),
    nr_I cap used kinds hostVal counts owner entry ∧
    u = (nI cap, nI used, kinds, keys, hasHost, hostVal, counts, (fun j => entry j &&& 65535), owner) ∧
    v = (nI cap, nI used, owner, entry, counts, hostVal, hasHost, kinds, keys)
theorem i_up {k : Nat} {u : SX} {v : SY} (h : i_Rel k u v) : i_Rel (k + 5) u v := h
/-- the kinds behind i steps of the constructor -/
def nr_K (i : Nat) : Nat → Int32 := fun j => if j < i then 1 else 0
theorem nr_K0 : nr_K 0 = fun _ => 0 := by
  funext j
  exact if_neg (by omega)
theorem nr_Ks (i : Nat) : upd (nr_K i) i 1 = nr_K (i + 1) := by
  funext j
  unfold upd nr_K
  by_cases h : j = i
  · rw [if_pos h, if_pos (by omega)]
  · rw [if_neg h]
    by_cases z : j < i
    · rw [if_pos z, if_pos (by omega)]
    · rw [if_neg z, if_neg (by omega)]
theorem nr_z (i : Nat) : upd (fun _ => 0) i 0 = fun _ => 0 := by
  funext j
  unfold upd
  by_cases h : j = i
  · rw [if_pos h]
  · rw [if_neg h]
theorem nr_zL (i : Nat) : vp_updL (fun _ => 0) i 0 = fun _ => 0 := by
  funext j
  unfold vp_updL
  by_cases h : j = i
  · rw [if_pos h]
  · rw [if_neg h]
theorem nr_initX (post : SX → Prop) (c : Int32) (hp : post (c, 0, nr_K 8, (fun _ => 0), (fun _ => 0), (fun _ => 0), (fun _ => 0), (fun _ => 0), (fun _ => 0))) :
    ∀ d i : Nat, i + d = 8 → wX_init_77 post c 0 (d + 1) (nI i) (nr_K i) (fun _ => 0) (fun _ => 0) (fun _ => 0) (fun _ => 0) (fun _ => 0) (fun _ => 0) := by
  intro d
  induction d with
  | zero =>
    intro i hi
    obtain rfl : i = 8 := by omega
    exact br_t (by decide) hp
  | succ d ih =>
    intro i hi
    have h : ¬ (8 : Int32) ≤ nI i := nI_ge (b := 8) (by omega) (by decide)
    have hin : vp_in (nI i) 8 := vp_in_nI (by omega) (by omega)
    have hcl : (nI i).toNatClampNeg = i := nI_clamp (by omega)
    exact br_f h ⟨hin, nm_r (by rw [hcl]; exact nr_Ks i) ⟨hin, nm_r (by rw [hcl]; exact nr_zL i) ⟨hin, nm_r (by rw [hcl, nr_b0]; exact nr_z i) ⟨hin, nm_r (by rw [hcl]; exact nr_z i) ⟨hin, nm_r (by rw [hcl]; exact nr_z i) (nm_r (nI_1 i) (ih (i + 1) (by omega)))⟩⟩⟩⟩⟩
theorem nr_initY (post : SY → Prop) (c : Int32) (hp : post (c, 0, (fun _ => 0), (fun _ => 0), (fun _ => 0), (fun _ => 0), (fun _ => 0), nr_K 8, (fun _ => 0))) :
    ∀ d i : Nat, i + d = 8 → wY_init_72 post (d + 1) (nI i) c 0 (fun _ => 0) (fun _ => 0) (fun _ => 0) (fun _ => 0) (fun _ => 0) (nr_K i) (fun _ => 0) := by
  intro d
  induction d with
  | zero =>
    intro i hi
    obtain rfl : i = 8 := by omega
    exact br_t (by decide) hp
  | succ d ih =>
    intro i hi
    have h : ¬ (8 : Int32) ≤ nI i := nI_ge (b := 8) (by omega) (by decide)
    have hin : vp_in (nI i) 8 := vp_in_nI (by omega) (by omega)
    have hcl : (nI i).toNatClampNeg = i := nI_clamp (by omega)
    have n0 : ¬ nI i < 0 := nI_pos (by omega)
    have n7 : nI i ≤ 7 := nr_7 (by omega)
    have e1 : vp_nar .byte (1 : Int32).toInt8.toInt32 = 1 := nr_byt (o := 1) (by decide)
    refine br_f h ?_
    unfold wpY_place
    exact br_f n0 (br_t n7 (br_f (by decide) (br_t (by decide) ⟨hin, nm_r (by rw [hcl, e1]; exact nr_Ks i) ⟨hin, nm_r (by rw [hcl]; exact nr_zL i) (nm_r (nI_1 i) (ih (i + 1) (by omega)))⟩⟩)))
theorem nr_K8 (j : Nat) (h : j < 8) : nr_K 8 j = 1 := if_pos h
theorem i_vc0 (k0 : Int32) : wpX_init (fun u => wpY_init (fun v => i_Rel 1 u v) k0) k0 := by
  obtain ⟨c, hc, e⟩ := nr_and7 k0
  have z : (fun _ : Nat => (0 : Int32)) = fun j => (fun _ : Nat => (0 : Int32)) j &&& 65535 := by
    funext j
    show (0 : Int32) = 0 &&& 65535
    decide
  have R : i_Rel 1 (nI c, 0, nr_K 8, (fun _ => 0), (fun _ => 0), (fun _ => 0), (fun _ => 0), (fun _ => 0), (fun _ => 0)) (nI c, 0, (fun _ => 0), (fun _ => 0), (fun _ => 0), (fun _ => 0), (fun _ => 0), nr_K 8, (fun _ => 0)) := by
    refine ⟨c, 0, nr_K 8, (fun _ => 0), (fun _ => 0), (fun _ => 0), (fun _ => 0), (fun _ => 0), (fun _ => 0), ⟨hc, Nat.zero_le c, fun j hj => Or.inr (Or.inl (nr_K8 j hj)), fun j => ⟨0, by decide, nI_0.symm⟩, fun j => ⟨0, Nat.le_refl 0, nI_0.symm⟩, fun i hi => absurd hi (Nat.not_lt_zero i)⟩, ?_, ?_⟩
    · rw [← z, nI_0]
    · rw [nI_0]
  have GY : wpY_init (fun v => i_Rel 1 (nI c, 0, nr_K 8, (fun _ => 0), (fun _ => 0), (fun _ => 0), (fun _ => 0), (fun _ => 0), (fun _ => 0)) v) k0 := by
    unfold wpY_init
    refine nm_r e ⟨9, ?_⟩
    have gy := nr_initY (fun v => i_Rel 1 (nI c, 0, nr_K 8, (fun _ => 0), (fun _ => 0), (fun _ => 0), (fun _ => 0), (fun _ => 0), (fun _ => 0)) v) (nI c) R 8 0 rfl
    rw [nr_K0, nI_0] at gy
    exact gy
  unfold wpX_init
  refine nm_r e ⟨9, ?_⟩
  have gx := nr_initX (fun u => wpY_init (fun v => i_Rel 1 u v) k0) (nI c) GY 8 0 rfl
  rw [nr_K0, nI_0] at gx
  exact gx
theorem i_vc_place {k : Nat} {u : SX} {v : SY} (I : i_Rel k u v) (hk : k + 5 ≤ 2561) (v1 : Int32) (a1 : Int64) (v4 : Int32) : wpX_place (fun r u' => wpY_place (fun r' v' => r' = r ∧ i_Rel (k + 5) u' v') v v1 a1 v4) u v1 a1 v4 := by
  have I' : i_Rel (k + 5) u v := I
  obtain ⟨cap, used, kinds, keys, hasHost, hostVal, counts, owner, entry, J, rfl, rfl⟩ := I
  by_cases n0 : v1 < 0
  · exact br_t n0 (br_t n0 ⟨rfl, I'⟩)
  · by_cases n7 : v1 ≤ 7
    · obtain ⟨c, hc, rfl⟩ := nr_ix n0 n7
      have hin : vp_in (nI c) 8 := vp_in_nI hc (by omega)
      by_cases p0 : v4 < 0
      · exact br_f n0 (br_t n7 (br_t p0 ⟨hin, br_f n0 (br_t n7 (br_t p0 ⟨hin, rfl, I'⟩))⟩))
      · by_cases p2 : v4 ≤ 2
        · obtain ⟨hcap, huse, hkd, hhv, hct, how⟩ := J
          have e3 : v4 = 0 ∨ v4 = 1 ∨ v4 = 2 := by
            obtain ⟨o, ho, rfl⟩ := nI_of2 (M := 2) (n := 2) (by decide) p0 p2
            have : o = 0 ∨ o = 1 ∨ o = 2 := by omega
            rcases this with rfl | rfl | rfl
            · exact Or.inl rfl
            · exact Or.inr (Or.inl rfl)
            · exact Or.inr (Or.inr rfl)
          have eb : vp_nar .byte v4.toInt8.toInt32 = v4 := by
            obtain ⟨o, ho, rfl⟩ := nI_of2 (M := 2) (n := 2) (by decide) p0 p2
            exact nr_byt (by omega)
          have R : i_Rel (k + 5) (nI cap, nI used, upd kinds (nI c).toNatClampNeg v4, vp_updL keys (nI c).toNatClampNeg a1, hasHost, hostVal, counts, (fun j => entry j &&& 65535), owner) (nI cap, nI used, owner, entry, counts, hostVal, hasHost, upd kinds (nI c).toNatClampNeg v4, vp_updL keys (nI c).toNatClampNeg a1) := by
            refine ⟨cap, used, upd kinds (nI c).toNatClampNeg v4, vp_updL keys (nI c).toNatClampNeg a1, hasHost, hostVal, counts, owner, entry, ⟨hcap, huse, fun j hj => ?_, hhv, hct, how⟩, rfl, rfl⟩
            by_cases z : j = (nI c).toNatClampNeg
            · rw [z, pk_us]; exact e3
            · rw [pk_un z]; exact hkd j hj
          exact br_f n0 (br_t n7 (br_f p0 (br_t p2 ⟨hin, nm_e ⟨hin, nm_e (br_f n0 (br_t n7 (br_f p0 (br_t p2 ⟨hin, nm_r (congrArg (upd kinds (nI c).toNatClampNeg) eb) ⟨hin, nm_e ⟨rfl, R⟩⟩⟩))))⟩⟩)))
        · exact br_f n0 (br_t n7 (br_f p0 (br_f p2 ⟨hin, br_f n0 (br_t n7 (br_f p0 (br_f p2 ⟨hin, rfl, I'⟩)))⟩)))
    · exact br_f n0 (br_f n7 (br_f n0 (br_f n7 ⟨rfl, I'⟩)))
theorem i_vc_setHost {k : Nat} {u : SX} {v : SY} (I : i_Rel k u v) (hk : k + 5 ≤ 2561) (v1 : Int32) (v2 : Int32) : wpX_setHost (fun r u' => wpY_setHost (fun r' v' => r' = r ∧ i_Rel (k + 5) u' v') v v1 v2) u v1 v2 := by
  have I' : i_Rel (k + 5) u v := I
  obtain ⟨cap, used, kinds, keys, hasHost, hostVal, counts, owner, entry, J, rfl, rfl⟩ := I
  by_cases n0 : v1 < 0
  · exact br_t n0 (br_t n0 ⟨rfl, I'⟩)
  · by_cases n7 : v1 ≤ 7
    · obtain ⟨c, hc, rfl⟩ := nr_ix n0 n7
      have hin : vp_in (nI c) 8 := vp_in_nI hc (by omega)
      by_cases hh : hasHost (nI c).toNatClampNeg = 0
      · obtain ⟨hcap, huse, hkd, hhv, hct, how⟩ := J
        obtain ⟨m, hm, em⟩ := hct (nI c).toNatClampNeg
        by_cases m0 : m = 0
        · have cX : counts (nI c).toNatClampNeg ≤ 0 := by rw [em, m0]; decide
          have cY : counts (nI c).toNatClampNeg = 0 := by rw [em, m0]; exact nI_0
          have R : i_Rel (k + 5) (nI cap, nI used, kinds, keys, upd hasHost (nI c).toNatClampNeg (vp_nar .boolean 1), upd hostVal (nI c).toNatClampNeg (v2 &&& 65535), counts, (fun j => entry j &&& 65535), owner) (nI cap, nI used, owner, entry, counts, upd hostVal (nI c).toNatClampNeg (v2 &&& 65535), upd hasHost (nI c).toNatClampNeg (vp_nar .boolean 1), kinds, keys) := by
            refine ⟨cap, used, kinds, keys, upd hasHost (nI c).toNatClampNeg (vp_nar .boolean 1), upd hostVal (nI c).toNatClampNeg (v2 &&& 65535), counts, owner, entry, ⟨hcap, huse, hkd, fun j => ?_, hct, how⟩, rfl, rfl⟩
            by_cases z : j = (nI c).toNatClampNeg
            · rw [z, pk_us]; exact nx_mask v2
            · rw [pk_un z]; exact hhv j
          exact br_f n0 (br_t n7 ⟨hin, br_t hh ⟨hin, br_t cX ⟨hin, nm_e ⟨hin, nm_e (br_f n0 (br_t n7 ⟨hin, br_t hh ⟨hin, br_t cY ⟨hin, nm_e ⟨hin, nm_r (congrArg (upd hostVal (nI c).toNatClampNeg) (nr_chr v2)) ⟨rfl, R⟩⟩⟩⟩⟩))⟩⟩⟩⟩)
        · have cX : ¬ counts (nI c).toNatClampNeg ≤ 0 := by rw [em]; exact nI_nle (by omega) (by omega)
          have cY : ¬ counts (nI c).toNatClampNeg = 0 := by rw [em]; exact nI_ne0 (by omega) (by omega)
          exact br_f n0 (br_t n7 ⟨hin, br_t hh ⟨hin, br_f cX (br_f n0 (br_t n7 ⟨hin, br_t hh ⟨hin, br_f cY ⟨rfl, I'⟩⟩⟩))⟩⟩)
      · exact br_f n0 (br_t n7 ⟨hin, br_f hh (br_f n0 (br_t n7 ⟨hin, br_f hh ⟨rfl, I'⟩⟩))⟩)
    · exact br_f n0 (br_f n7 (br_f n0 (br_f n7 ⟨rfl, I'⟩)))
theorem i_vc_addMember {k : Nat} {u : SX} {v : SY} (I : i_Rel k u v) (hk : k + 5 ≤ 2561) (v1 : Int32) (v2 : Int32) : wpX_addMember (fun r u' => wpY_addMember (fun r' v' => r' = r ∧ i_Rel (k + 5) u' v') v v1 v2) u v1 v2 := by
  have I' : i_Rel (k + 5) u v := I
  obtain ⟨cap, used, kinds, keys, hasHost, hostVal, counts, owner, entry, J, rfl, rfl⟩ := I
  by_cases n0 : v1 < 0
  · exact br_t n0 (br_t n0 ⟨rfl, I'⟩)
  · by_cases n7 : v1 ≤ 7
    · obtain ⟨c, hc, rfl⟩ := nr_ix n0 n7
      have hin : vp_in (nI c) 8 := vp_in_nI hc (by omega)
      have hcl : (nI c).toNatClampNeg = c := nI_clamp (by omega)
      by_cases hh : hasHost (nI c).toNatClampNeg = 0
      · by_cases em : v2 &&& 65535 = nI c
        · exact br_f n0 (br_t n7 ⟨hin, br_t hh (nm_e (br_t em (br_f n0 (br_t n7 ⟨hin, br_t hh (br_t em ⟨rfl, I'⟩)⟩))))⟩)
        · obtain ⟨hcap, huse, hkd, hhv, hct, how⟩ := J
          by_cases uc : used < cap
          · have ul : nI used < nI cap := nI_lt uc (by omega)
            have uin : vp_in (nI used) 11 := vp_in_nI (by omega) (by omega)
            have ucl : (nI used).toNatClampNeg = used := nI_clamp (by omega)
            obtain ⟨m, hm, ec⟩ := hct (nI c).toNatClampNeg
            have eY : vp_nar .char (((counts (nI c).toNatClampNeg + 1).toUInt32 % 65536).toInt32) = counts (nI c).toNatClampNeg + 1 := by
              rw [ec, nr_cnt1 (by omega), nI_1]
            have eS : upd (fun j => entry j &&& 65535) (nI used).toNatClampNeg (vp_nar .char (((v2 &&& 65535).toUInt32 % 65536).toInt32)) = fun j => upd entry (nI used).toNatClampNeg (vp_nar .short v2.toInt16.toInt32) j &&& 65535 := by
              funext j
              by_cases z : j = (nI used).toNatClampNeg
              · rw [z, pk_us, pk_us, nr_sto, nr_ent]
              · rw [pk_un z, pk_un z]
            have R : i_Rel (k + 5) (nI cap, nI (used + 1), kinds, keys, hasHost, hostVal, upd counts (nI c).toNatClampNeg (counts (nI c).toNatClampNeg + 1), (fun j => upd entry (nI used).toNatClampNeg (vp_nar .short v2.toInt16.toInt32) j &&& 65535), upd owner (nI used).toNatClampNeg (nI c)) (nI cap, nI (used + 1), upd owner (nI used).toNatClampNeg (nI c), upd entry (nI used).toNatClampNeg (vp_nar .short v2.toInt16.toInt32), upd counts (nI c).toNatClampNeg (counts (nI c).toNatClampNeg + 1), hostVal, hasHost, kinds, keys) := by
              refine ⟨cap, used + 1, kinds, keys, hasHost, hostVal, upd counts (nI c).toNatClampNeg (counts (nI c).toNatClampNeg + 1), upd owner (nI used).toNatClampNeg (nI c), upd entry (nI used).toNatClampNeg (vp_nar .short v2.toInt16.toInt32), ⟨hcap, by omega, hkd, hhv, fun j => ?_, fun i hi => ?_⟩, rfl, rfl⟩
              · by_cases z : j = (nI c).toNatClampNeg
                · rw [z, pk_us, ec, nI_1]
                  exact ⟨m + 1, by omega, rfl⟩
                · rw [pk_un z]
                  obtain ⟨n, hn, en⟩ := hct j
                  exact ⟨n, by omega, en⟩
              · have cn : ¬ upd counts (nI c).toNatClampNeg (counts (nI c).toNatClampNeg + 1) c = 0 := by
                  rw [ec, hcl, pk_us, nI_1]
                  exact nI_ne0 (by omega) (by omega)
                rw [ucl]
                by_cases z : i = used
                · refine ⟨c, hc, ?_, cn, ?_⟩
                  · rw [z, pk_us]
                  · rw [z, pk_us, nr_ent]
                    exact em
                · rw [pk_un z, pk_un z]
                  obtain ⟨o, ho, eo, co, no⟩ := how i (by omega)
                  refine ⟨o, ho, eo, ?_, no⟩
                  by_cases y : o = c
                  · rw [y]; exact cn
                  · rw [pk_un (by rw [hcl]; exact y)]
                    exact co
            exact br_f n0 (br_t n7 ⟨hin, br_t hh (nm_e (br_f em (br_t ul ⟨uin, nm_r eS ⟨uin, nm_e (nm_r (nI_1 used) ⟨hin, nm_e ⟨hin, nm_e (br_f n0 (br_t n7 ⟨hin, br_t hh (br_f em (br_t ul ⟨uin, nm_r (congrArg (upd owner (nI used).toNatClampNeg) (nr_byt hc)) (nm_r (nI_1 used) ⟨uin, nm_e ⟨hin, hin, nm_r (congrArg (upd counts (nI c).toNatClampNeg) eY) ⟨rfl, R⟩⟩⟩)⟩))⟩))⟩⟩)⟩⟩)))⟩)
          · have ul : ¬ nI used < nI cap := nI_nlt (by omega) (by omega)
            exact br_f n0 (br_t n7 ⟨hin, br_t hh (nm_e (br_f em (br_f ul (br_f n0 (br_t n7 ⟨hin, br_t hh (br_f em (br_f ul ⟨rfl, I'⟩))⟩)))))⟩)
      · exact br_f n0 (br_t n7 ⟨hin, br_f hh (br_f n0 (br_t n7 ⟨hin, br_f hh ⟨rfl, I'⟩⟩))⟩)
    · exact br_f n0 (br_f n7 (br_f n0 (br_f n7 ⟨rfl, I'⟩)))
theorem i_vc_nestHostOf {k : Nat} {u : SX} {v : SY} (I : i_Rel k u v) (hk : k + 5 ≤ 2561) (v1 : Int32) : wpX_nestHostOf (fun r => wpY_nestHostOf (fun r' => r' = r ∧ i_Rel (k + 5) u v) v v1) u v1 := by
  have I' : i_Rel (k + 5) u v := I
  obtain ⟨cap, used, kinds, keys, hasHost, hostVal, counts, owner, entry, J, rfl, rfl⟩ := I
  obtain ⟨r, _, nX, nY⟩ := nr_nest (keys := keys) (hasHost := hasHost) J v1
  exact nX _ (nY _ ⟨rfl, I'⟩)
theorem i_vc_nestMemberCount {k : Nat} {u : SX} {v : SY} (I : i_Rel k u v) (hk : k + 5 ≤ 2561) (v1 : Int32) : wpX_nestMemberCount (fun r => wpY_nestMemberCount (fun r' => r' = r ∧ i_Rel (k + 5) u v) v v1) u v1 := by
  have I' : i_Rel (k + 5) u v := I
  obtain ⟨cap, used, kinds, keys, hasHost, hostVal, counts, owner, entry, J, rfl, rfl⟩ := I
  obtain ⟨r, hr, nX, nY⟩ := nr_nest (keys := keys) (hasHost := hasHost) J v1
  unfold wpX_nestMemberCount wpY_nestMemberCount
  dsimp only
  rcases hr with rfl | ⟨h, hh, rfl, k0⟩
  · exact nX _ (br_t rfl (nY _ (br_f (by decide) ⟨rfl, I'⟩)))
  · have hin : vp_in (nI h) 8 := vp_in_nI hh (by omega)
    have hcl : (nI h).toNatClampNeg = h := nI_clamp (by omega)
    have hne : ¬ nI h = -1 := nr_ne (by omega)
    have hge : 0 ≤ nI h := nI_pos' (by omega)
    obtain ⟨q, hq, cX, cY⟩ := nr_count (keys := keys) (hasHost := hasHost) J hh used 0 1 (by omega)
    rw [nI_0] at cX cY
    by_cases k1 : kinds (nI h).toNatClampNeg = 1
    · exact nX _ (br_f hne ⟨hin, br_t k1 ⟨_, cX _ (nY _ (br_t hge ⟨_, cY _ ⟨rfl, I'⟩⟩))⟩⟩)
    · have e : q = 1 := by
        apply hq
        rw [hcl] at k1
        rcases J.2.2.1 h hh with z | z | z
        · exact absurd z k0
        · exact absurd z k1
        · exact z
      exact nX _ (br_f hne ⟨hin, br_f k1 (nY _ (br_t hge ⟨_, cY _ ⟨e, I'⟩⟩))⟩)
theorem i_vc_nestMemberAt {k : Nat} {u : SX} {v : SY} (I : i_Rel k u v) (hk : k + 5 ≤ 2561) (v1 : Int32) (v2 : Int32) : wpX_nestMemberAt (fun r => wpY_nestMemberAt (fun r' => r' = r ∧ i_Rel (k + 5) u v) v v1 v2) u v1 v2 := by
  have I' : i_Rel (k + 5) u v := I
  obtain ⟨cap, used, kinds, keys, hasHost, hostVal, counts, owner, entry, J, rfl, rfl⟩ := I
  obtain ⟨r, hr, nX, nY⟩ := nr_nest (keys := keys) (hasHost := hasHost) J v1
  unfold wpX_nestMemberAt wpY_nestMemberAt
  dsimp only
  rcases hr with rfl | ⟨h, hh, rfl, k0⟩
  · exact nX _ (br_t rfl (nY _ (br_t (by decide) ⟨rfl, I'⟩)))
  · have hin : vp_in (nI h) 8 := vp_in_nI hh (by omega)
    have hcl : (nI h).toNatClampNeg = h := nI_clamp (by omega)
    have hne : ¬ nI h = -1 := nr_ne (by omega)
    have hge : ¬ nI h < 0 := nI_pos (by omega)
    by_cases p0 : 0 ≤ v2
    · by_cases pz : v2 = 0
      · exact nX _ (br_f hne (br_t p0 (br_t pz (nY _ (br_f hge (br_t p0 (br_t pz ⟨rfl, I'⟩)))))))
      · obtain ⟨q, hq, cX, cY⟩ := nr_at (keys := keys) (hasHost := hasHost) J hh v2 used 0 0 (by omega)
        have e1 : (0 : Int32) + 1 = 1 := by decide
        rw [e1, nI_0] at cX
        rw [nI_0] at cY
        by_cases k1 : kinds (nI h).toNatClampNeg = 1
        · exact nX _ (br_f hne (br_t p0 (br_f pz ⟨hin, br_t k1 ⟨_, cX _ (nY _ (br_f hge (br_t p0 (br_f pz ⟨_, cY _ ⟨rfl, I'⟩⟩))))⟩⟩)))
        · have e : q = -1 := by
            apply hq
            rw [hcl] at k1
            rcases J.2.2.1 h hh with z | z | z
            · exact absurd z k0
            · exact absurd z k1
            · exact z
          exact nX _ (br_f hne (br_t p0 (br_f pz ⟨hin, br_f k1 (nY _ (br_f hge (br_t p0 (br_f pz ⟨_, cY _ ⟨e, I'⟩⟩))))⟩)))
    · exact nX _ (br_f hne (br_f p0 (nY _ (br_f hge (br_f p0 ⟨rfl, I'⟩)))))
theorem i_vc_isNestmate {k : Nat} {u : SX} {v : SY} (I : i_Rel k u v) (hk : k + 5 ≤ 2561) (v1 : Int32) (v2 : Int32) : wpX_isNestmate (fun r => wpY_isNestmate (fun r' => r' = r ∧ i_Rel (k + 5) u v) v v1 v2) u v1 v2 := by
  have I' : i_Rel (k + 5) u v := I
  obtain ⟨cap, used, kinds, keys, hasHost, hostVal, counts, owner, entry, J, rfl, rfl⟩ := I
  obtain ⟨r, hr, nX, nY⟩ := nr_nest (keys := keys) (hasHost := hasHost) J v1
  obtain ⟨q, _, mX, mY⟩ := nr_nest (keys := keys) (hasHost := hasHost) J v2
  unfold wpX_isNestmate wpY_isNestmate
  dsimp only
  rcases hr with rfl | ⟨h, hh, rfl, k0⟩
  · exact nX _ (br_t rfl (nY _ (br_t (by decide) ⟨rfl, I'⟩)))
  · have hne : ¬ nI h = -1 := nr_ne (by omega)
    have hge : ¬ nI h < 0 := nI_pos (by omega)
    by_cases z : nI h = q
    · exact nX _ (br_f hne (mX _ (br_t z (nY _ (br_f hge (mY _ (br_t z ⟨rfl, I'⟩)))))))
    · exact nX _ (br_f hne (mX _ (br_f z (nY _ (br_f hge (mY _ (br_f z ⟨rfl, I'⟩)))))))
end
