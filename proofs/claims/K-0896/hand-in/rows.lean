section
/-! pasted from the kit's rows to paste: longs as naturals -/
theorem wb_tb (n : Nat) : (lN n).toBitVec = BitVec.ofNat 64 n := rfl
theorem wb_inj {a b : Int64} (h : a.toBitVec = b.toBitVec) : a = b := Int64.toBitVec_inj.mp h
theorem wb_tn {n : Nat} (h : n < 2 ^ 64) : (lN n).toBitVec.toNat = n := by rw [wb_tb, BitVec.toNat_ofNat, Nat.mod_eq_of_lt h]
theorem wb_cu : ∀ k, k < 64 → ((nI k).toInt64.toUInt64 &&& Int64.toUInt64 63) = UInt64.ofNat k := by decide +kernel
theorem wb_lt2 {a b : Nat} (h : a < b) : 2 ^ a < 2 ^ b := Nat.pow_lt_pow_right (by decide) h
theorem wb_shr {n k : Nat} (hn : n < 2 ^ 64) (hk : k < 64) : ((lN n).toUInt64 >>> ((nI k).toInt64.toUInt64 &&& Int64.toUInt64 63)).toInt64 = lN (n / 2 ^ k) := by
  rw [wb_cu k hk]
  apply wb_inj
  apply BitVec.eq_of_toNat_eq
  show ((lN n).toUInt64 >>> UInt64.ofNat k).toNat = (BitVec.ofNat 64 _).toNat
  have h1 : (UInt64.ofNat k).toNat = k := by
    show (BitVec.ofNat 64 k).toNat = k
    rw [BitVec.toNat_ofNat, Nat.mod_eq_of_lt (by omega)]
  have h2 : (lN n).toUInt64.toNat = n := wb_tn hn
  rw [UInt64.toNat_shiftRight, h1, h2, Nat.mod_eq_of_lt hk, Nat.shiftRight_eq_div_pow, BitVec.toNat_ofNat, Nat.mod_eq_of_lt (Nat.lt_of_le_of_lt (Nat.div_le_self _ _) hn)]
theorem wb_and {a b : Nat} (ha : a < 2 ^ 64) (hb : b < 2 ^ 64) : lN a &&& lN b = lN (a &&& b) := by
  apply wb_inj
  rw [Int64.toBitVec_and, wb_tb, wb_tb, wb_tb]
  apply BitVec.eq_of_toNat_eq
  rw [BitVec.toNat_and, BitVec.toNat_ofNat, BitVec.toNat_ofNat, BitVec.toNat_ofNat, Nat.mod_eq_of_lt ha, Nat.mod_eq_of_lt hb, Nat.mod_eq_of_lt (Nat.and_lt_two_pow _ hb)]
theorem wb_mask {n k : Nat} (hn : n < 2 ^ 64) (hk : k < 64) : lN n &&& lN (2 ^ k - 1) = lN (n % 2 ^ k) := by
  rw [wb_and hn (by have := wb_lt2 hk; omega), Nat.and_two_pow_sub_one_eq_mod]
theorem wb_a1 {n : Nat} (hn : n < 2 ^ 64) : lN n &&& 1 = lN (n % 2) := wb_mask (k := 1) hn (by decide)
theorem pf_andw (x : Int64) : ∃ m, m < 2 ^ 32 ∧ x &&& 4294967295 = lN m := ⟨x.toBitVec.toNat % 2 ^ 32, Nat.mod_lt _ (by decide), Int64.toBitVec_inj.mp (BitVec.eq_of_toNat_eq (by
  show (x.toBitVec &&& 4294967295#64).toNat = (BitVec.ofNat 64 (x.toBitVec.toNat % 2 ^ 32)).toNat
  rw [BitVec.toNat_and, show (4294967295#64).toNat = 2 ^ 32 - 1 from by decide, Nat.and_two_pow_sub_one_eq_mod, BitVec.toNat_ofNat]
  omega))⟩
theorem pk_lT {n : Nat} (h : n < 2 ^ 63) : (lN n).toInt = (n : Int) := lg_ofNat_toInt h
theorem pk_lEQ {a b : Nat} (ha : a < 2 ^ 63) (hb : b < 2 ^ 63) : lN a = lN b ↔ a = b := by
  rw [← Int64.toInt_inj, pk_lT ha, pk_lT hb]; omega
end
section
/-! the plan's numbers: u is a natural m, its parity, its low two bits, its half -/
theorem ms_s1 {m : Nat} (h : m < 2 ^ 64) : ((lN m).toUInt64 >>> ((1 : Int32).toInt64.toUInt64 &&& Int64.toUInt64 63)).toInt64 = lN (m / 2) := wb_shr (k := 1) h (by decide)
theorem ms_z {m : Nat} (h : m < 2 ^ 63) : lN m = 0 ↔ m = 0 := pk_lEQ (b := 0) h (by decide)
theorem ms_b {m : Nat} (h : m < 2 ^ 63) : (lN m &&& 1) = 0 ↔ m % 2 = 0 := by
  rw [wb_a1 (by omega)]
  exact ms_z (by omega)
theorem ms_3 {m : Nat} (h : m < 2 ^ 63) : (lN m &&& 3) = 3 ↔ m % 4 = 3 := by
  have e : lN m &&& 3 = lN (m % 4) := wb_mask (k := 2) (by omega) (by decide)
  rw [e]
  exact pk_lEQ (b := 3) (by omega) (by decide)
theorem ms_sub {m : Nat} (h : 1 ≤ m) : lN m - 1 = lN (m - 1) := lN_sub (b := 1) h
theorem ms_nb : ∀ k, k < 32 → (nI k).toInt8.toInt32 = nI k := by decide +kernel
theorem ms_vb {k : Nat} (h : k < 32) : vp_nar .byte (nI k).toInt8.toInt32 = nI k := by
  rw [ms_nb k h, vp_nar_byte, ms_nb k h]
theorem ms_u {f : Nat → Int32} {c : Nat} {x y : Int32} (h : c < 2 ^ 31) (e : x = y) : upd f (nI c).toNatClampNeg x = upd f c y := by
  rw [nI_clamp h, e]
/-! the component's joins -/
theorem ms_117 {post : Int32 → SX → Prop} {J : Int64 → Int32 → Int32 → (Nat → Int32) → (Nat → Int32) → Prop} {m k : Nat} {c f : Int32} {sh sg : Nat → Int32} (hm : m < 2 ^ 64) (h : J (lN (m / 2)) c (nI (k + 1)) sh sg) : wX_plan_117 post J (lN m) c (nI k) f sh sg := by
  unfold wX_plan_117
  exact nm_r (ms_s1 hm) (nm_r (nI_1 k) h)
theorem ms_113 {post : Int32 → SX → Prop} {J : Int64 → Int32 → Int32 → (Nat → Int32) → (Nat → Int32) → Prop} {m k : Nat} {c f : Int32} {sh sg : Nat → Int32} (h1 : 1 ≤ m) (hm : m < 2 ^ 63) (h : J (lN ((m - 1) / 2)) c (nI (k + 1)) sh sg) : wX_plan_113 post J (lN m) c (nI k) f sh sg := by
  unfold wX_plan_113
  exact nm_r (ms_sub h1) (ms_117 (by omega) h)
theorem ms_76 {post : Int32 → SX → Prop} {J : Int64 → Int32 → Int32 → (Nat → Int32) → (Nat → Int32) → Prop} {m k : Nat} {c f : Int32} {sh sg : Nat → Int32} (hm : m < 2 ^ 63) (h : J (lN ((m + 1) / 2)) c (nI (k + 1)) sh sg) : wX_plan_76 post J (lN m) c (nI k) f sh sg := by
  unfold wX_plan_76
  exact nm_r (lN_1 m) (ms_117 (by omega) h)
/-! the reference's joins -/
theorem ms_880 {post : Int32 → SY → Prop} {J : Int64 → Int32 → Int32 → (Nat → Int32) → (Nat → Int32) → Prop} {m k : Nat} {c : Int32} {sh sg : Nat → Int32} (h1 : 1 ≤ m) (hm : m < 2 ^ 63) (h : J (lN ((m - 1) / 2)) (nI (k + 1)) c sh sg) : wY_plan_88 post J (lN m) (nI k) 0 c sh sg := by
  unfold wY_plan_88
  exact br_t rfl (nm_r (ms_sub h1) (nm_r (ms_s1 (by omega)) (nm_r (nI_1 k) h)))
theorem ms_881 {post : Int32 → SY → Prop} {J : Int64 → Int32 → Int32 → (Nat → Int32) → (Nat → Int32) → Prop} {m k : Nat} {c : Int32} {sh sg : Nat → Int32} (hm : m < 2 ^ 63) (h : J (lN ((m + 1) / 2)) (nI (k + 1)) c sh sg) : wY_plan_88 post J (lN m) (nI k) 1 c sh sg := by
  unfold wY_plan_88
  exact br_f (by decide) (nm_r (lN_1 m) (nm_r (ms_s1 (by omega)) (nm_r (nI_1 k) h)))
theorem ms_47 {post : Int32 → SY → Prop} {J : Int64 → Int32 → Int32 → (Nat → Int32) → (Nat → Int32) → Prop} {m k c : Nat} {z : Int32} {sh sg : Nat → Int32} (hz : vp_nar .boolean z = z) (hc : c < 16) (hk : k < 32) (h : wY_plan_88 post J (lN m) (nI k) z (nI (c + 1)) (upd sh c (nI k)) (upd sg c z)) : wY_plan_47 post J (lN m) (nI k) z (nI c) sh sg := by
  unfold wY_plan_47
  have hi : vp_in (nI c) 16 := vp_in_nI hc (by decide)
  exact br_f (nI_ge (b := 16) hc (by decide)) ⟨hi, nm_r (ms_u (by omega) (ms_vb hk)) (nm_r (nI_1 c) ⟨hi, nm_r (ms_u (by omega) hz) h⟩)⟩
/-- once u is 0 the reference only counts to 32 -/
theorem ms_y0 {c : Int32} {sh sg : Nat → Int32} {post : Int32 → SY → Prop} (hp : post c (c, sh, sg)) : ∀ d k : Nat, k + d = 32 → wY_plan_15 post (d + 1) (lN 0) (nI k) c sh sg := by
  intro d
  induction d with
  | zero =>
    intro k hk
    exact br_t (nI_le (a := 32) (by omega) (by omega)) hp
  | succ d ih =>
    intro k hk
    exact br_f (nI_ge (b := 32) (by omega) (by omega)) (br_t ((ms_b (by decide)).mpr rfl) (nm_r (ms_s1 (by decide)) (nm_r (nI_1 k) (ih (k + 1) (by omega)))))
/-- the two loops in lockstep: signed digits are never neighbours, so at most 16 terms -/
theorem ms_plan : ∀ (d m k c : Nat) (sh sg : Nat → Int32), k + d = 32 → m < 2 ^ 33 → 2 * c ≤ k + 1 → (m % 2 = 1 → 2 * c ≤ k) →
    ∃ (c' : Nat) (sh' sg' : Nat → Int32), c' ≤ 16 ∧
      (∀ (f : Int32) (post : Int32 → SX → Prop), post (nI c') (nI c', sh', sg') → wX_plan_13 post f (d + 1) (lN m) (nI c) (nI k) sh sg) ∧
      (∀ post : Int32 → SY → Prop, post (nI c') (nI c', sh', sg') → wY_plan_15 post (d + 1) (lN m) (nI k) (nI c) sh sg) := by
  intro d
  induction d with
  | zero =>
    intro m k c sh sg hk hm hc _
    exact ⟨c, sh, sg, by omega, fun f post hp => br_c (fun _ => hp) (fun _ => br_t (nI_lt (a := 31) (by omega) (by omega)) hp), fun post hp => br_t (nI_le (a := 32) (by omega) (by omega)) hp⟩
  | succ d ih =>
    intro m k c sh sg hk hm hc ho
    by_cases m0 : m = 0
    · subst m0
      exact ⟨c, sh, sg, by omega, fun f post hp => br_t ((ms_z (by decide)).mpr rfl) hp, fun post hp => ms_y0 hp (d + 1) k hk⟩
    · have nz : ¬ lN m = 0 := fun e => m0 ((ms_z (by omega)).mp e)
      have n31 : ¬ (31 : Int32) < nI k := nI_nlt (b := k) (a := 31) (by omega) (by decide)
      have n32 : ¬ (32 : Int32) ≤ nI k := nI_ge (b := 32) (by omega) (by decide)
      by_cases m2 : m % 2 = 0
      · have hb : (lN m &&& 1) = 0 := (ms_b (by omega)).mpr m2
        obtain ⟨c', sh', sg', hc', hX, hY⟩ := ih (m / 2) (k + 1) c sh sg (by omega) (by omega) (by omega) (by omega)
        exact ⟨c', sh', sg', hc', fun f post hp => br_f nz (br_f n31 (br_t hb (ms_117 (by omega) (hX f post hp)))), fun post hp => br_f n32 (br_t hb (nm_r (ms_s1 (by omega)) (nm_r (nI_1 k) (hY post hp))))⟩
      · have hb : ¬ (lN m &&& 1) = 0 := fun e => m2 ((ms_b (by omega)).mp e)
        have hck : 2 * c ≤ k := ho (by omega)
        have c32 : ¬ (32 : Int32) ≤ nI c := nI_ge (b := 32) (by omega) (by decide)
        have hi : vp_in (nI c) 32 := vp_in_nI (by omega) (by decide)
        by_cases m3 : m % 4 = 3
        · have h3 : (lN m &&& 3) = 3 := (ms_3 (by omega)).mpr m3
          obtain ⟨c', sh', sg', hc', hX, hY⟩ := ih ((m + 1) / 2) (k + 1) (c + 1) (upd sh c (nI k)) (upd sg c 1) (by omega) (by omega) (by omega) (by omega)
          exact ⟨c', sh', sg', hc', fun f post hp => br_f nz (br_f n31 (br_f hb (br_t h3 (br_f c32 ⟨hi, nm_r (ms_u (by omega) rfl) ⟨hi, nm_r (ms_u (by omega) rfl) (nm_r (nI_1 c) (ms_76 (by omega) (hX f post hp)))⟩⟩)))), fun post hp => br_f n32 (br_f hb (br_t h3 (ms_47 rfl (by omega) (by omega) (ms_881 (by omega) (hY post hp)))))⟩
        · have h3 : ¬ (lN m &&& 3) = 3 := fun e => m3 ((ms_3 (by omega)).mp e)
          obtain ⟨c', sh', sg', hc', hX, hY⟩ := ih ((m - 1) / 2) (k + 1) (c + 1) (upd sh c (nI k)) (upd sg c 0) (by omega) (by omega) (by omega) (by omega)
          exact ⟨c', sh', sg', hc', fun f post hp => br_f nz (br_f n31 (br_f hb (br_f h3 (br_f c32 ⟨hi, nm_r (ms_u (by omega) rfl) ⟨hi, nm_r (ms_u (by omega) rfl) (nm_r (nI_1 c) (ms_113 (by omega) (by omega) (hX f post hp)))⟩⟩)))), fun post hp => br_f n32 (br_f hb (br_f h3 (ms_47 rfl (by omega) (by omega) (ms_880 (by omega) (by omega) (hY post hp)))))⟩
end
section
/-- both keep the same count, at most 16, and the same two arrays: shift amounts, signs (an index at or beyond 16 is never written) -/
def i_Rel (_ : Nat) (u : SX) (v : SY) : Prop := ∃ (c : Nat) (sh sg : Nat → Int32), c ≤ 16 ∧ u = (nI c, sh, sg) ∧ v = (nI c, sh, sg)
theorem i_up {k : Nat} {u : SX} {v : SY} (h : i_Rel k u v) : i_Rel (k + 2) u v := h
theorem i_vc0 : wpX_init (fun u => wpY_init (fun v => i_Rel 0 u v)) := ⟨0, fun _ => 0, fun _ => 0, by decide, rfl, rfl⟩
theorem i_vc_plan {k : Nat} {u : SX} {v : SY} (I : i_Rel k u v) (hk : k + 2 ≤ 1024) (v1 : Int32) : wpX_plan (fun r u' => wpY_plan (fun r' v' => r' = r ∧ i_Rel (k + 2) u' v') v v1) u v1 := by
  obtain ⟨c, sh, sg, hc, rfl, rfl⟩ := I
  obtain ⟨m, hm, em⟩ := pf_andw v1.toInt64
  obtain ⟨c', sh', sg', hc', hX, hY⟩ := ms_plan 32 m 0 0 sh sg rfl (by omega) (by decide) (fun _ => by decide)
  unfold wpX_plan wpY_plan
  dsimp only
  exact nm_r em ⟨33, hX _ _ (nm_r em ⟨33, hY _ ⟨rfl, c', sh', sg', hc', rfl, rfl⟩⟩)⟩
theorem ms_apply (x : Int32) (c : Nat) (sh sg : Nat → Int32) (hc : c ≤ 16) : ∀ (d i : Nat) (acc : Int32), i + d = c → ∃ r : Int32, (∀ post : Int32 → Prop, post r → wX_apply_4 post x (nI c) sh sg (d + 1) acc (nI i)) ∧ (∀ post : Int32 → Prop, post r → wY_apply_4 post x (nI c) sh sg (d + 1) acc (nI i)) := by
  intro d
  induction d with
  | zero =>
    intro i acc hi
    have h : nI c ≤ nI i := nI_le (by omega) (by omega)
    exact ⟨acc, fun _ hp => br_t h hp, fun _ hp => br_t h hp⟩
  | succ d ih =>
    intro i acc hi
    have h : ¬ nI c ≤ nI i := nI_ge (by omega) (by omega)
    have h32 : vp_in (nI i) 32 := vp_in_nI (by omega) (by decide)
    have h16 : vp_in (nI i) 16 := vp_in_nI (by omega) (by decide)
    by_cases z : sg (nI i).toNatClampNeg = 0
    · obtain ⟨r, hX, hY⟩ := ih (i + 1) (acc + (x <<< ((sh (nI i).toNatClampNeg) &&& 31))) (by omega)
      exact ⟨r, fun post hp => br_f h ⟨h32, br_t z ⟨h32, nm_e (nm_r (nI_1 i) (hX post hp))⟩⟩, fun post hp => br_f h ⟨h16, nm_e ⟨h16, br_t z (nm_e (nm_r (nI_1 i) (hY post hp)))⟩⟩⟩
    · obtain ⟨r, hX, hY⟩ := ih (i + 1) (acc - (x <<< ((sh (nI i).toNatClampNeg) &&& 31))) (by omega)
      exact ⟨r, fun post hp => br_f h ⟨h32, br_f z ⟨h32, nm_e (nm_r (nI_1 i) (hX post hp))⟩⟩, fun post hp => br_f h ⟨h16, nm_e ⟨h16, br_f z (nm_e (nm_r (nI_1 i) (hY post hp)))⟩⟩⟩
theorem i_vc_apply {k : Nat} {u : SX} {v : SY} (I : i_Rel k u v) (hk : k + 2 ≤ 1024) (v1 : Int32) : wpX_apply (fun r => wpY_apply (fun r' => r' = r ∧ i_Rel (k + 2) u v) v v1) u v1 := by
  have I' := I
  obtain ⟨c, sh, sg, hc, rfl, rfl⟩ := I'
  obtain ⟨r, hX, hY⟩ := ms_apply v1 c sh sg hc c 0 0 (by omega)
  exact ⟨c + 1, hX _ ⟨c + 1, hY _ ⟨rfl, i_up I⟩⟩⟩
theorem i_vc_cheaper {k : Nat} {u : SX} {v : SY} (I : i_Rel k u v) (hk : k + 2 ≤ 1024) (v1 : Int32) : wpX_cheaper (fun r => wpY_cheaper (fun r' => r' = r ∧ i_Rel (k + 2) u v) v v1) u v1 := by
  have I' := I
  obtain ⟨c, sh, sg, hc, rfl, rfl⟩ := I'
  exact br_c (fun h => br_t h ⟨rfl, i_up I⟩) (fun h => br_f h ⟨rfl, i_up I⟩)
theorem i_vc_terms {k : Nat} {u : SX} {v : SY} (I : i_Rel k u v) (hk : k + 2 ≤ 1024) : wpX_terms (fun r => wpY_terms (fun r' => r' = r ∧ i_Rel (k + 2) u v) v) u := by
  have I' := I
  obtain ⟨c, sh, sg, hc, rfl, rfl⟩ := I'
  exact ⟨rfl, i_up I⟩
theorem i_vc_term {k : Nat} {u : SX} {v : SY} (I : i_Rel k u v) (hk : k + 2 ≤ 1024) (v1 : Int32) : wpX_term (fun r => wpY_term (fun r' => r' = r ∧ i_Rel (k + 2) u v) v v1) u v1 := by
  have I' := I
  obtain ⟨c, sh, sg, hc, rfl, rfl⟩ := I'
  have J := i_up I
  by_cases h0 : v1 < 0
  · exact br_t h0 (br_t h0 ⟨rfl, J⟩)
  · by_cases h1 : v1 < nI c
    · have hj : ∃ j : Nat, j < 16 ∧ v1 = nI j := by
        obtain ⟨j, hj, rfl⟩ := nI_of h0
        rw [nI_ltI hj (by omega)] at h1
        exact ⟨j, by omega, rfl⟩
      have h32 : vp_in v1 32 := by
        obtain ⟨j, hj, rfl⟩ := hj
        exact vp_in_nI (by omega) (by decide)
      have h16 : vp_in v1 16 := by
        obtain ⟨j, hj, rfl⟩ := hj
        exact vp_in_nI (by omega) (by decide)
      by_cases z : sg v1.toNatClampNeg = 0
      · exact br_f h0 (br_t h1 ⟨h32, h32, br_t z (br_f h0 (br_t h1 ⟨h16, h16, br_t z ⟨rfl, J⟩⟩))⟩)
      · exact br_f h0 (br_t h1 ⟨h32, h32, br_f z (br_f h0 (br_t h1 ⟨h16, h16, br_f z ⟨rfl, J⟩⟩))⟩)
    · exact br_f h0 (br_f h1 (br_f h0 (br_f h1 ⟨rfl, J⟩)))
end
