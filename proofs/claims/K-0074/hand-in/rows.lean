section
/-! small facts about ints, and one step of each build loop -/
theorem hd_us {f : Nat → Int32} {k : Nat} {x : Int32} : upd f k x k = x := if_pos rfl
theorem hd_un {f : Nat → Int32} {k j : Nat} {x : Int32} (h : j ≠ k) : upd f k x j = f j := if_neg h
theorem hd_b0 : ∀ c, c < 256 → (nI c).toInt8.toInt32.toInt8.toInt32 &&& 255 = nI c := by decide +kernel
theorem hd_s0 : ∀ c, c < 512 → (nI c).toInt16.toInt32 = nI c := by decide +kernel
theorem hd_c0 : ∀ c, c < 1024 → ((nI c).toUInt32 % 65536).toInt32.toUInt32.toUInt16.toUInt32.toInt32 = nI c := by decide +kernel
theorem hd_sh : ∀ i, i < 9 → (1 : Int32) <<< (nI i &&& 31) = nI (2 ^ i) := by decide +kernel
/-- a count or a rank below 256 comes back out of its byte -/
theorem hd_byte {c : Nat} (h : c < 256) : vp_nar .byte (nI c).toInt8.toInt32 &&& 255 = nI c := by
  rw [vp_nar_byte]; exact hd_b0 c h
theorem hd_short {c : Nat} (h : c < 512) : vp_nar .short (nI c).toInt16.toInt32 = nI c := by
  rw [vp_nar_short, hd_s0 c h, hd_s0 c h]
theorem hd_char {c : Nat} (h : c < 1024) : vp_nar .char ((nI c).toUInt32 % 65536).toInt32 = nI c := by
  rw [vp_nar_char]; exact hd_c0 c h
theorem hd_mul2 (a : Nat) : nI a * 2 = nI (a * 2) := (Int32.ofNat_mul a 2).symm
theorem hd_pow {i : Nat} (h : i ≤ 8) : 2 ^ i ≤ 256 := Nat.pow_le_pow_right (n := 2) (by decide) h
theorem hd_ix {x : Int32} (h1 : ¬ x < 1) (h8 : x ≤ 8) : ∃ j : Nat, 1 ≤ j ∧ j ≤ 8 ∧ x = nI j := by
  have e1 : (1 : Int32).toInt = 1 := by decide
  have e0 : (0 : Int32).toInt = 0 := by decide
  have h0 : ¬ x < 0 := by
    rw [Int32.lt_iff_toInt_lt] at h1 ⊢
    omega
  obtain ⟨j, hj, rfl⟩ := nI_of2 (M := 8) (n := 8) (by decide) h0 h8
  rw [Int32.lt_iff_toInt_lt, nI_toInt (by omega)] at h1
  exact ⟨j, by omega, hj, rfl⟩
theorem hd_by {x : Int32} (h0 : ¬ x < 0) (h : x ≤ 255) : ∃ c : Nat, c ≤ 255 ∧ x = nI c :=
  nI_of2 (M := 255) (n := 255) (by decide) h0 h
/-- one turn of the component's loop -/
theorem hd_X {post : Int32 → SX → Prop} {f : Int32} {n i code kk c : Nat} {a mn mx vp : Nat → Int32} (hi : i ≤ 8) (hc : code ≤ 256) (hn : c ≤ 255) (ha : a i &&& 255 = nI c)
    (h1 : code * 2 + c ≤ 2 ^ i → wX_build_11 post f n (nI (code * 2 + c)) (nI (kk + c)) (nI (i + 1)) a (upd mn i (nI (code * 2))) (upd mx i (nI (code * 2 + c) - 1)) (upd vp i (vp_nar .byte (nI kk).toInt8.toInt32)))
    (h2 : ¬ code * 2 + c ≤ 2 ^ i → post (-1) (f, a, upd mn i (nI (code * 2)), upd mx i (nI (code * 2 + c) - 1), upd vp i (vp_nar .byte (nI kk).toInt8.toInt32))) :
    wX_build_11 post f (n + 1) (nI code) (nI kk) (nI i) a mn mx vp := by
  have h8 : ¬ (8 : Int32) < nI i := nI_nlt (a := 8) hi (by decide)
  have hin : vp_in (nI i) 9 := vp_in_nI (by omega) (by decide)
  have hcl : (nI i).toNatClampNeg = i := nI_clamp (by omega)
  have hp := hd_pow hi
  refine br_f h8 fun x1 e1 => ⟨hin, fun x4 e4 => ⟨hin, fun mn' emn => ⟨hin, fun vp' evp x1' e1' x2' e2' => ⟨hin, fun mx' emx => ?_⟩⟩⟩⟩
  rw [hd_mul2] at e1
  subst e1
  rw [hcl, ha] at e4
  subst e4
  rw [hcl, hd_char (by omega)] at emn
  rw [hcl] at evp emx
  rw [nI_add] at e1' e2'
  subst emn evp e1' e2' emx
  rw [hd_sh i (by omega)]
  exact br_c (fun h => nm_r (nI_1 i) (h1 ((nI_leI (by omega) (by omega)).mp h))) (fun h => h2 (fun g => h ((nI_leI (by omega) (by omega)).mpr g)))
/-- one turn of the reference's loop -/
theorem hd_Y {post : Int32 → SY → Prop} {f : Int32} {n i code kk c : Nat} {cn fi nu ba : Nat → Int32} (hi : i ≤ 8) (hc : code ≤ 256) (hk : kk < 512) (hn : c ≤ 255) (ha : cn i = nI c)
    (h1 : code * 2 + c ≤ 2 ^ i → wY_build_11 post f n (nI (code * 2 + c)) (nI (kk + c)) (nI (i + 1)) cn (upd fi i (nI (code * 2))) (upd nu i (nI c)) (upd ba i (nI kk)))
    (h2 : ¬ code * 2 + c ≤ 2 ^ i → post (-1) (f, cn, upd fi i (nI (code * 2)), upd nu i (nI c), upd ba i (nI kk))) :
    wY_build_11 post f (n + 1) (nI code) (nI kk) (nI i) cn fi nu ba := by
  have h8 : ¬ (8 : Int32) < nI i := nI_nlt (a := 8) hi (by decide)
  have hin : vp_in (nI i) 9 := vp_in_nI (by omega) (by decide)
  have hcl : (nI i).toNatClampNeg = i := nI_clamp (by omega)
  have hp := hd_pow hi
  refine br_f h8 fun x1 e1 => ⟨hin, fun fi' efi => ⟨hin, fun ba' eba => ⟨hin, hin, fun nu' enu x4 e4 x1' e1' x2' e2' => ?_⟩⟩⟩
  rw [hd_mul2] at e1
  subst e1
  rw [hcl, ha, hd_s0 c (by omega)] at e4
  subst e4
  rw [hcl, hd_char (by omega)] at efi
  rw [hcl, hd_short hk] at eba
  rw [hcl, ha, hd_short (by omega)] at enu
  rw [nI_add] at e1' e2'
  subst efi eba enu e1' e2'
  rw [hd_sh i (by omega)]
  exact br_c (fun h => nm_r (nI_1 i) (h1 ((nI_leI (by omega) (by omega)).mp h))) (fun h => h2 (fun g => h ((nI_leI (by omega) (by omega)).mpr g)))
end
section
/-- the two tables agree at a length: the first code m, the number n of codes, the rank b of the first -/
def hd_T (mn mx vp fi nu ba : Nat → Int32) (j : Nat) : Prop :=
  ∃ m n b : Nat, m ≤ 512 ∧ n ≤ 255 ∧ mn j = nI m ∧ fi j = nI m ∧ mx j = nI (m + n) - 1 ∧ nu j = nI n ∧ vp j &&& 255 = nI b ∧ ba j = nI b
/-- the two count arrays agree: one holds bytes, the other the numbers -/
def hd_C (a cn : Nat → Int32) : Prop := ∀ j : Nat, ∃ c : Nat, c ≤ 255 ∧ a j &&& 255 = nI c ∧ cn j = nI c
/-- one flag; the counts agree; the tables agree at every length while the flag is up -/
def i_Rel (_ : Nat) (u : SX) (v : SY) : Prop :=
  ∃ (f : Int32) (a mn mx vp cn fi nu ba : Nat → Int32), u = (f, a, mn, mx, vp) ∧ v = (f, cn, fi, nu, ba) ∧ hd_C a cn ∧ (f = 0 ∨ ∀ j : Nat, 1 ≤ j → j ≤ 8 → hd_T mn mx vp fi nu ba j)
theorem i_up {k : Nat} {u : SX} {v : SY} (h : i_Rel k u v) : i_Rel (k + 3) u v := h
theorem hd_z1 : (0 : Int32) &&& 255 = nI 0 := by decide
theorem hd_z2 : (0 : Int32) = nI 0 := by decide
theorem i_vc0 : wpX_init (fun u => wpY_init (fun v => i_Rel 0 u v)) :=
  ⟨0, fun _ => 0, fun _ => 0, fun _ => 0, fun _ => 0, fun _ => 0, fun _ => 0, fun _ => 0, fun _ => 0, rfl, rfl, fun _ => ⟨0, by decide, hd_z1, hd_z2⟩, Or.inl rfl⟩
theorem i_vc_setCount {k : Nat} {u : SX} {v : SY} (I : i_Rel k u v) (hk : k + 3 ≤ 1536) (v1 : Int32) (v2 : Int32) : wpX_setCount (fun r u' => wpY_setCount (fun r' v' => r' = r ∧ i_Rel (k + 3) u' v') v v1 v2) u v1 v2 := by
  have I' := I
  obtain ⟨f, a, mn, mx, vp, cn, fi, nu, ba, rfl, rfl, hC, hT⟩ := I
  by_cases h1 : v1 < 1
  · exact br_t h1 (br_t h1 ⟨rfl, I'⟩)
  by_cases h8 : v1 ≤ 8
  · by_cases g0 : v2 < 0
    · exact br_f h1 (br_t h8 (br_t g0 (br_f h1 (br_t h8 (br_t g0 ⟨rfl, I'⟩)))))
    by_cases g5 : v2 ≤ 255
    · obtain ⟨j, hj1, hj8, rfl⟩ := hd_ix h1 h8
      obtain ⟨c, hc, rfl⟩ := hd_by g0 g5
      have hin : vp_in (nI j) 9 := vp_in_nI (by omega) (by decide)
      have hcl : (nI j).toNatClampNeg = j := nI_clamp (by omega)
      refine br_f h1 (br_t h8 (br_f g0 (br_t g5 ⟨hin, fun x ex => ⟨hin, fun a' ea => ?_⟩⟩)))
      refine br_f h1 (br_t h8 (br_f g0 (br_t g5 ⟨hin, fun y ey => ⟨hin, fun cn' en => ?_⟩⟩)))
      rw [hcl] at ex ea ey en
      obtain ⟨c0, hc0, e1, e2⟩ := hC j
      refine ⟨by rw [ex, ey, e1, e2], f, a', mn, mx, vp, cn', fi, nu, ba, rfl, rfl, fun i => ?_, hT⟩
      subst ea en
      by_cases hi : i = j
      · subst hi
        exact ⟨c, hc, by rw [hd_us]; exact hd_byte (by omega), hd_us⟩
      · rw [hd_un hi, hd_un hi]
        exact hC i
    · exact br_f h1 (br_t h8 (br_f g0 (br_f g5 (br_f h1 (br_t h8 (br_f g0 (br_f g5 ⟨rfl, I'⟩)))))))
  · exact br_f h1 (br_f h8 (br_f h1 (br_f h8 ⟨rfl, I'⟩)))
theorem i_vc_count {k : Nat} {u : SX} {v : SY} (I : i_Rel k u v) (hk : k + 3 ≤ 1536) (v1 : Int32) : wpX_count (fun r => wpY_count (fun r' => r' = r ∧ i_Rel (k + 3) u v) v v1) u v1 := by
  have I' := I
  obtain ⟨f, a, mn, mx, vp, cn, fi, nu, ba, rfl, rfl, hC, hT⟩ := I
  by_cases h1 : v1 < 1
  · exact br_t h1 (br_t h1 ⟨rfl, I'⟩)
  by_cases h8 : v1 ≤ 8
  · obtain ⟨j, hj1, hj8, rfl⟩ := hd_ix h1 h8
    have hin : vp_in (nI j) 9 := vp_in_nI (by omega) (by decide)
    obtain ⟨c0, hc0, e1, e2⟩ := hC (nI j).toNatClampNeg
    exact br_f h1 (br_t h8 ⟨hin, br_f h1 (br_t h8 ⟨hin, by rw [e1, e2], I'⟩)⟩)
  · exact br_f h1 (br_f h8 (br_f h1 (br_f h8 ⟨rfl, I'⟩)))
/-- both build loops, from length i on: one answer, related states -/
theorem hd_build {a cn : Nat → Int32} (hC : hd_C a cn) : ∀ (d i code kk : Nat) (mn mx vp fi nu ba : Nat → Int32), i + d = 9 → 1 ≤ i → code ≤ 2 ^ (i - 1) → kk ≤ code →
    (∀ j : Nat, 1 ≤ j → j < i → hd_T mn mx vp fi nu ba j) →
    ∃ (r : Int32) (u : SX) (v : SY), i_Rel 0 u v ∧
      (∀ post : Int32 → SX → Prop, post r u → wX_build_11 post 0 (d + 1) (nI code) (nI kk) (nI i) a mn mx vp) ∧
      (∀ post : Int32 → SY → Prop, post r v → wY_build_11 post 0 (d + 1) (nI code) (nI kk) (nI i) cn fi nu ba) := by
  intro d
  induction d with
  | zero =>
    intro i code kk mn mx vp fi nu ba hi h1 hc hk hT
    have h : (8 : Int32) < nI i := nI_lt (a := 8) (by omega) (by omega)
    exact ⟨nI kk, (1, a, mn, mx, vp), (1, cn, fi, nu, ba), ⟨1, a, mn, mx, vp, cn, fi, nu, ba, rfl, rfl, hC, Or.inr fun j g1 g8 => hT j g1 (by omega)⟩, fun _ hp => br_t h hp, fun _ hp => br_t h hp⟩
  | succ d ih =>
    intro i code kk mn mx vp fi nu ba hi h1 hc hk hT
    obtain ⟨c, hcl, ea, en⟩ := hC i
    have hp : 2 ^ (i - 1) ≤ 128 := Nat.pow_le_pow_right (n := 2) (j := 7) (by decide) (by omega)
    by_cases hle : code * 2 + c ≤ 2 ^ i
    · obtain ⟨r, u, v, R, hX, hY⟩ := ih (i + 1) (code * 2 + c) (kk + c) (upd mn i (nI (code * 2))) (upd mx i (nI (code * 2 + c) - 1)) (upd vp i (vp_nar .byte (nI kk).toInt8.toInt32)) (upd fi i (nI (code * 2))) (upd nu i (nI c)) (upd ba i (nI kk)) (by omega) (by omega) hle (by omega) (by
          intro j g1 g2
          by_cases hj : j = i
          · subst hj
            exact ⟨code * 2, c, kk, by omega, hcl, hd_us, hd_us, hd_us, hd_us, by rw [hd_us]; exact hd_byte (by omega), hd_us⟩
          · unfold hd_T
            rw [hd_un hj, hd_un hj, hd_un hj, hd_un hj, hd_un hj, hd_un hj]
            exact hT j g1 (by omega))
      exact ⟨r, u, v, R, fun post g => hd_X (by omega) (by omega) hcl ea (fun _ => hX post g) (fun z => absurd hle z), fun post g => hd_Y (by omega) (by omega) (by omega) hcl en (fun _ => hY post g) (fun z => absurd hle z)⟩
    · exact ⟨-1, _, _, ⟨0, _, _, _, _, _, _, _, _, rfl, rfl, hC, Or.inl rfl⟩, fun post g => hd_X (by omega) (by omega) hcl ea (fun z => absurd z hle) (fun _ => g), fun post g => hd_Y (by omega) (by omega) (by omega) hcl en (fun z => absurd z hle) (fun _ => g)⟩
theorem i_vc_build {k : Nat} {u : SX} {v : SY} (I : i_Rel k u v) (hk : k + 3 ≤ 1536) : wpX_build (fun r u' => wpY_build (fun r' v' => r' = r ∧ i_Rel (k + 3) u' v') v) u := by
  obtain ⟨f, a, mn, mx, vp, cn, fi, nu, ba, rfl, rfl, hC, hT⟩ := I
  obtain ⟨r, u, v, R, hX, hY⟩ := hd_build hC 8 1 0 0 mn mx vp fi nu ba rfl (by decide) (by decide) (by decide) (fun j g1 g2 => absurd g1 (by omega))
  exact ⟨9, hX _ ⟨9, hY _ ⟨rfl, R⟩⟩⟩
theorem i_vc_lookup {k : Nat} {u : SX} {v : SY} (I : i_Rel k u v) (hk : k + 3 ≤ 1536) (v1 : Int32) (v2 : Int32) : wpX_lookup (fun r => wpY_lookup (fun r' => r' = r ∧ i_Rel (k + 3) u v) v v1 v2) u v1 v2 := by
  have I' := I
  obtain ⟨f, a, mn, mx, vp, cn, fi, nu, ba, rfl, rfl, hC, hT⟩ := I
  by_cases hf : f = 0
  · exact br_t hf (br_t hf ⟨rfl, I'⟩)
  by_cases h1 : v2 < 1
  · exact br_f hf (br_t h1 (br_f hf (br_t h1 ⟨rfl, I'⟩)))
  by_cases h8 : v2 ≤ 8
  · obtain ⟨j, hj1, hj8, rfl⟩ := hd_ix h1 h8
    have hin : vp_in (nI j) 9 := vp_in_nI (by omega) (by decide)
    have hcl : (nI j).toNatClampNeg = j := nI_clamp (by omega)
    have hT' := hT.resolve_left hf j hj1 hj8
    rw [← hcl] at hT'
    obtain ⟨m, n, b, hm, hn, e1, e2, e3, e4, e5, e6⟩ := hT'
    have em : (nI m).toInt = m := nI_toInt (by omega)
    have e10 : (1 : Int32).toInt = 1 := by decide
    have emx : (nI (m + n) - 1).toInt = (m : Int) + n - 1 := by
      rw [Jvm.Kit.i32_sub (by rw [nI_toInt (by omega), e10]; omega) (by rw [nI_toInt (by omega), e10]; omega), nI_toInt (by omega), e10]
      omega
    refine br_f hf (br_f h1 (br_t h8 ⟨hin, fun x ex => ?_⟩))
    rw [e1] at ex
    subst ex
    by_cases hlt : v1 < nI m
    · have hge : ¬ fi (nI j).toNatClampNeg ≤ v1 := by rw [e2]; exact Int32.not_le.mpr hlt
      exact br_t hlt (br_f hf (br_f h1 (br_t h8 ⟨hin, br_f hge ⟨rfl, I'⟩⟩)))
    have hge : fi (nI j).toNatClampNeg ≤ v1 := by rw [e2]; exact Int32.not_lt.mp hlt
    have hlt' := hlt
    rw [Int32.lt_iff_toInt_lt, em] at hlt'
    have hv := v1.toInt_lt
    have eo : (v1 - nI m).toInt = v1.toInt - m := by
      rw [Jvm.Kit.i32_sub (by rw [em]; omega) (by rw [em]; omega), em]
    by_cases hle : v1.toInt ≤ (m : Int) + n - 1
    · have hX : v1 ≤ mx (nI j).toNatClampNeg := by rw [e3, Int32.le_iff_toInt_le, emx]; exact hle
      have hY : v1 - nI m < nu (nI j).toNatClampNeg := by
        rw [e4, Int32.lt_iff_toInt_lt, eo, nI_toInt (by omega)]
        omega
      refine br_f hlt ⟨hin, br_t hX ⟨hin, br_f hf (br_f h1 (br_t h8 ⟨hin, br_t hge ⟨hin, fun y ey => ?_⟩⟩))⟩⟩
      rw [e2] at ey
      subst ey
      refine ⟨hin, br_t hY ⟨hin, ?_, I'⟩⟩
      rw [e5, e6]
      rw [Int32.sub_eq_add_neg, Int32.sub_eq_add_neg, Int32.add_assoc]
    · have hX : ¬ v1 ≤ mx (nI j).toNatClampNeg := by rw [e3, Int32.le_iff_toInt_le, emx]; exact hle
      have hY : ¬ v1 - nI m < nu (nI j).toNatClampNeg := by
        rw [e4, Int32.lt_iff_toInt_lt, eo, nI_toInt (by omega)]
        omega
      refine br_f hlt ⟨hin, br_f hX (br_f hf (br_f h1 (br_t h8 ⟨hin, br_t hge ⟨hin, fun y ey => ?_⟩⟩)))⟩
      rw [e2] at ey
      subst ey
      exact ⟨hin, br_f hY ⟨rfl, I'⟩⟩
  · exact br_f hf (br_f h1 (br_f h8 (br_f hf (br_f h1 (br_f h8 ⟨rfl, I'⟩)))))
end
