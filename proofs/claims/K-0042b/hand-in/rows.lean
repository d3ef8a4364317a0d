section
/-! rows pasted from kit/rows/PURE-ROWS (a starting text) -/
theorem pk_us {f : Nat → Int32} {k : Nat} {x : Int32} : upd f k x k = x := if_pos rfl
theorem pk_un {f : Nat → Int32} {k j : Nat} {x : Int32} (h : j ≠ k) : upd f k x j = f j := if_neg h
theorem pk_mul (a b : Nat) : nI a * nI b = nI (a * b) := (Int32.ofNat_mul a b).symm
theorem pk_div {a d : Nat} (ha : a < 2 ^ 31) (h0 : 0 < d) (hd : d < 2 ^ 31) : nI a / nI d = nI (a / d) := by
  apply Int32.toInt_inj.mp
  rw [lg_idiv_nonneg (by rw [nI_toInt ha]; omega) (by rw [nI_toInt hd]; omega), nI_toInt ha, nI_toInt hd, nI_toInt (Nat.lt_of_le_of_lt (Nat.div_le_self a d) ha)]
  first | rfl | exact (Int.natCast_ediv _ _).symm
theorem pk_in {x : Int32} (n N : Nat) (h : n < N) (hx : x = nI n := by rfl) (hN : N < 2 ^ 31 := by omega) : vp_in x N := by
  subst hx
  exact vp_in_nI h hN
theorem pk_tn {n : Nat} (h : n < 2 ^ 32) : (nI n).toBitVec.toNat = n := Nat.mod_eq_of_lt h
theorem pk_and (x : Int32) {m : Int32} (k : Nat) (hm : m.toBitVec.toNat = 2 ^ k - 1) : x &&& m = nI (x.toBitVec.toNat % 2 ^ k) := by
  apply Int32.toBitVec_inj.mp
  apply BitVec.eq_of_toNat_eq
  rw [Int32.toBitVec_and, BitVec.toNat_and, hm, Nat.and_two_pow_sub_one_eq_mod]
  show _ = (BitVec.ofNat 32 _).toNat
  rw [BitVec.toNat_ofNat]
  exact (Nat.mod_eq_of_lt (Nat.lt_of_le_of_lt (Nat.mod_le _ _) x.toBitVec.isLt)).symm
theorem pk_andE (x : Int32) {m : Int32} (k : Nat) (hm : m.toBitVec.toNat = 2 ^ k - 1) : ∃ j : Nat, j < 2 ^ k ∧ x &&& m = nI j := ⟨_, Nat.mod_lt _ (Nat.two_pow_pos k), pk_and x k hm⟩
theorem pk_vb (z : Int32) : vp_nar .byte z.toInt8.toInt32 = z.toInt8.toInt32 := by rw [vp_nar_byte]; simp
theorem pk_vs (z : Int32) : vp_nar .short z.toInt16.toInt32 = z.toInt16.toInt32 := by rw [vp_nar_short]; simp
end
section
/-- a byte array, each cell read without its sign -/
def mh_P (a : Nat → Int32) : Nat → Int32 := fun j => a j &&& 255
/-- what a byte array keeps of an int -/
def mh_b (z : Int32) : Int32 := vp_nar .byte z.toInt8.toInt32
/-- what a short array keeps of an int -/
def mh_s (z : Int32) : Int32 := vp_nar .short z.toInt16.toInt32
/-- the rounded mean of four -/
def mh_m (a b c d : Int32) : Int32 := ((((a + b) + c) + d) + 2) / 4
/-- the byte that stands for the mean of the square whose first cell is o -/
def mh_av (a : Nat → Int32) (o : Nat) : Int32 := mh_b (mh_m (a o &&& 255) (a (o + 1) &&& 255) (a (o + 4) &&& 255) (a (o + 5) &&& 255))
/-- level 1 after a rebuild -/
def mh_L (a0 a1 : Nat → Int32) : Nat → Int32 := upd (upd (upd (upd a1 0 (mh_av a0 0)) 1 (mh_av a0 2)) 2 (mh_av a0 8)) 3 (mh_av a0 10)
/-- the mean of level 1's four texels -/
def mh_T (a : Nat → Int32) : Int32 := mh_m (a 0 &&& 255) (a 1 &&& 255) (a 2 &&& 255) (a 3 &&& 255)
theorem mh_P_upd (a : Nat → Int32) (k : Nat) (x : Int32) : mh_P (upd a k x) = upd (mh_P a) k (x &&& 255) := by
  funext j
  show upd a k x j &&& 255 = upd (mh_P a) k (x &&& 255) j
  by_cases h : j = k
  · subst h
    rw [pk_us, pk_us]
  · rw [pk_un h, pk_un h]
    rfl
theorem mh_b8 : ∀ q : Nat, q < 256 → (nI q).toInt8.toInt32 &&& 255 = nI q := by decide +kernel
theorem mh_s16 : ∀ q : Nat, q < 256 → (nI q).toInt16.toInt32 = nI q := by decide +kernel
theorem mh_bq {q : Nat} (h : q < 256) : mh_b (nI q) &&& 255 = nI q := by
  unfold mh_b
  rw [pk_vb]
  exact mh_b8 q h
theorem mh_sq {q : Nat} (h : q < 256) : mh_s (nI q) = nI q := by
  unfold mh_s
  rw [pk_vs]
  exact mh_s16 q h
theorem mh_a255 (a : Int32) : ∃ p : Nat, p < 256 ∧ a &&& 255 = nI p := pk_andE a (m := 255) 8 (by decide)
theorem mh_mq (a b c d : Int32) : ∃ q : Nat, q < 256 ∧ mh_m (a &&& 255) (b &&& 255) (c &&& 255) (d &&& 255) = nI q := by
  obtain ⟨p, hp, ep⟩ := mh_a255 a
  obtain ⟨q, hq, eq⟩ := mh_a255 b
  obtain ⟨r, hr, er⟩ := mh_a255 c
  obtain ⟨s, hs, es⟩ := mh_a255 d
  refine ⟨(p + q + r + s + 2) / 4, by omega, ?_⟩
  rw [ep, eq, er, es]
  show ((((nI p + nI q) + nI r) + nI s) + nI 2) / nI 4 = _
  rw [nI_add, nI_add, nI_add, nI_add, pk_div (by omega) (by omega) (by omega)]
theorem mh_mb (a b c d : Int32) : mh_b (mh_m (a &&& 255) (b &&& 255) (c &&& 255) (d &&& 255)) &&& 255 = mh_m (a &&& 255) (b &&& 255) (c &&& 255) (d &&& 255) := by
  obtain ⟨q, hq, e⟩ := mh_mq a b c d
  rw [e]
  exact mh_bq hq
theorem mh_ms (a b c d : Int32) : mh_s (mh_m (a &&& 255) (b &&& 255) (c &&& 255) (d &&& 255)) = mh_m (a &&& 255) (b &&& 255) (c &&& 255) (d &&& 255) := by
  obtain ⟨q, hq, e⟩ := mh_mq a b c d
  rw [e]
  exact mh_sq hq
theorem mh_P0 : mh_P (fun _ => 0) = fun _ => 0 := funext fun _ => (by decide : (0 : Int32) &&& 255 = 0)
theorem mh_ix (s x y : Nat) : nI y * nI s + nI x = nI (y * s + x) := by rw [pk_mul, nI_add]
end
section
section
variable {postX : Int32 → SX → Prop} {postY : Int32 → SY → Prop} {J : Int32 → (Nat → Int32) → (Nat → Int32) → (Nat → Int32) → Prop} {n : Nat} {f : Int32} {a0 a1 a2 : Nat → Int32}
theorem mh_e1 (y x : Nat) : (2 : Int32) * nI y * 4 + 2 * nI x = nI (y * 8 + x * 2) := by
  show nI 2 * nI y * nI 4 + nI 2 * nI x = _
  rw [pk_mul, pk_mul, pk_mul, nI_add]
  exact congrArg nI (by omega)
theorem mh_e2 (y x : Nat) : (2 : Int32) * nI y * 4 + (2 * nI x + 1) = nI (y * 8 + x * 2 + 1) := by
  show nI 2 * nI y * nI 4 + (nI 2 * nI x + nI 1) = _
  rw [pk_mul, pk_mul, pk_mul, nI_add, nI_add]
  exact congrArg nI (by omega)
theorem mh_e3 (y x : Nat) : ((2 : Int32) * nI y + 1) * 4 + 2 * nI x = nI (y * 8 + x * 2 + 4) := by
  show (nI 2 * nI y + nI 1) * nI 4 + nI 2 * nI x = _
  rw [pk_mul, pk_mul, nI_add, pk_mul, nI_add]
  exact congrArg nI (by omega)
theorem mh_e4 (y x : Nat) : ((2 : Int32) * nI y + 1) * 4 + (2 * nI x + 1) = nI (y * 8 + x * 2 + 5) := by
  show (nI 2 * nI y + nI 1) * nI 4 + (nI 2 * nI x + nI 1) = _
  rw [pk_mul, pk_mul, nI_add, pk_mul, nI_add, nI_add]
  exact congrArg nI (by omega)
theorem mh_e5 (y x : Nat) : nI y * 2 + nI x = nI (y * 2 + x) := mh_ix 2 x y
/-- X's inner body: the texel (x, y) of level 1 -/
theorem mh_x9s (y x : Nat) (hy : y < 2) (hx : x < 2) (h : wX_rebuild_9 postX J (nI y) n (nI (x + 1)) a0 (upd a1 (y * 2 + x) (mh_av a0 (y * 8 + x * 2))) a2) : wX_rebuild_9 postX J (nI y) (n + 1) (nI x) a0 a1 a2 := by
  refine br_f (nI_ge (b := 2) hx (by decide)) ⟨pk_in _ 16 (by omega) (mh_e1 y x), fun p ep => ⟨pk_in _ 16 (by omega) (mh_e2 y x), fun q eq => ⟨pk_in _ 16 (by omega) (mh_e3 y x), fun r er => ⟨pk_in _ 16 (by omega) (mh_e4 y x), fun s es => ⟨by decide, pk_in _ 4 (by omega) (mh_e5 y x), fun b eb z ez => ?_⟩⟩⟩⟩⟩
  have hb : b = upd a1 (y * 2 + x) (mh_av a0 (y * 8 + x * 2)) := by
    rw [eb, ep, eq, er, es, mh_e1, mh_e2, mh_e3, mh_e4, mh_e5, nI_clamp (by omega), nI_clamp (by omega), nI_clamp (by omega), nI_clamp (by omega), nI_clamp (by omega)]
    rfl
  rw [hb, ez, nI_1 x]
  exact h
/-- X's row y of level 1 -/
theorem mh_x9 (y : Nat) (hy : y < 2) (h : J (nI (y + 1)) a0 (upd (upd a1 (y * 2) (mh_av a0 (y * 8))) (y * 2 + 1) (mh_av a0 (y * 8 + 2))) a2) : wX_rebuild_9 postX J (nI y) 3 0 a0 a1 a2 :=
  mh_x9s y 0 hy (by decide) (mh_x9s y 1 hy (by decide) (br_t (nI_le (a := 2) (b := 2) (by decide) (by decide)) (nm_r (nI_1 y) h)))
theorem mh_x2s (y : Nat) (hy : y < 2) (h : wX_rebuild_2 postX n (nI (y + 1)) a0 (upd (upd a1 (y * 2) (mh_av a0 (y * 8))) (y * 2 + 1) (mh_av a0 (y * 8 + 2))) a2) : wX_rebuild_2 postX (n + 1) (nI y) a0 a1 a2 :=
  br_f (nI_ge (b := 2) hy (by decide)) ⟨3, mh_x9 y hy h⟩
theorem mh_x2e (h : postX (upd a2 0 (mh_b (mh_T a1)) 0 &&& 255) (a0, a1, upd a2 0 (mh_b (mh_T a1)))) : wX_rebuild_2 postX (n + 1) (nI 2) a0 a1 a2 :=
  br_t (nI_le (a := 2) (b := 2) (by decide) (by decide)) (nm_e (nm_e (nm_e (nm_e ⟨by decide, nm_e h⟩))))
theorem mh_X (h : postX (upd a2 0 (mh_b (mh_T (mh_L a0 a1))) 0 &&& 255) (a0, mh_L a0 a1, upd a2 0 (mh_b (mh_T (mh_L a0 a1))))) : wpX_rebuild postX (a0, a1, a2) :=
  ⟨3, mh_x2s 0 (by decide) (mh_x2s 1 (by decide) (mh_x2e h))⟩
theorem mh_o : ∀ k : Nat, k < 4 → ((nI k >>> ((1 : Int32) &&& 31)) * 8) + ((nI k &&& 1) * 2) = nI (k / 2 * 8 + k % 2 * 2) := by decide +kernel
/-- Y's body: the texel k of level 1, Y's arrays being X's read without sign -/
theorem mh_y2s (k : Nat) (hk : k < 4) (h : wY_rebuild_2 postY f n (nI (k + 1)) (mh_P a0) (mh_P (upd a1 k (mh_av a0 (k / 2 * 8 + k % 2 * 2))))) : wY_rebuild_2 postY f (n + 1) (nI k) (mh_P a0) (mh_P a1) := by
  have ho := mh_o k hk
  have hl : k / 2 * 8 + k % 2 * 2 < 11 := by omega
  generalize k / 2 * 8 + k % 2 * 2 = o at ho hl h
  have f4 : nI o + 4 = nI (o + 4) := nI_add o 4
  have f5 : nI o + 5 = nI (o + 5) := nI_add o 5
  refine br_f (nI_ge (b := 4) hk (by decide)) (nm_r ho ⟨vp_in_nI (by omega) (by decide), pk_in _ 16 (by omega) (nI_1 o), pk_in _ 16 (by omega) f4, pk_in _ 16 (by omega) f5, by decide, vp_in_nI hk (by decide), fun b eb z ez => ?_⟩)
  have hb : b = mh_P (upd a1 k (mh_av a0 o)) := by
    rw [eb, nI_1 o, f4, f5, nI_clamp (by omega), nI_clamp (by omega), nI_clamp (by omega), nI_clamp (by omega), nI_clamp (by omega), mh_P_upd]
    exact congrArg (upd (mh_P a1) k) ((mh_ms (a0 o) (a0 (o + 1)) (a0 (o + 4)) (a0 (o + 5))).trans (mh_mb (a0 o) (a0 (o + 1)) (a0 (o + 4)) (a0 (o + 5))).symm)
  rw [hb, ez, nI_1 k]
  exact h
theorem mh_y2e (h : postY (mh_T a1) (mh_T a1, mh_P a0, mh_P a1)) : wY_rebuild_2 postY f (n + 1) (nI 4) (mh_P a0) (mh_P a1) :=
  br_t (nI_le (a := 4) (b := 4) (by decide) (by decide)) ⟨by decide, nm_e h⟩
theorem mh_Y (h : postY (mh_T (mh_L a0 a1)) (mh_T (mh_L a0 a1), mh_P a0, mh_P (mh_L a0 a1))) : wpY_rebuild postY (f, mh_P a0, mh_P a1) :=
  ⟨5, mh_y2s 0 (by decide) (mh_y2s 1 (by decide) (mh_y2s 2 (by decide) (mh_y2s 3 (by decide) (mh_y2e h))))⟩
theorem mh_top : mh_T a1 = upd a2 0 (mh_b (mh_T a1)) 0 &&& 255 := by
  rw [pk_us]
  exact (mh_mb _ _ _ _).symm
end
end
section
/-- the reference's state is the component's, each byte read without its sign -/
def i_Rel (k : Nat) (u : SX) (v : SY) : Prop := v = (u.2.2 0 &&& 255, mh_P u.1, mh_P u.2.1)
theorem i_up {k : Nat} {u : SX} {v : SY} (h : i_Rel k u v) : i_Rel (k + 4) u v := h
theorem i_vc0 : wpX_init (fun u => wpY_init (fun v => i_Rel 0 u v)) := by
  show ((0 : Int32), (fun _ => 0 : Nat → Int32), (fun _ => 0 : Nat → Int32)) = ((0 : Int32) &&& 255, mh_P (fun _ => 0), mh_P (fun _ => 0))
  rw [mh_P0, show (0 : Int32) &&& 255 = 0 from by decide]
theorem i_vc_setBase {k : Nat} {u : SX} {v : SY} (I : i_Rel k u v) (hk : k + 4 ≤ 2048) (v1 : Int32) (v2 : Int32) (v3 : Int32) : wpX_setBase (fun r u' => wpY_setBase (fun r' v' => r' = r ∧ i_Rel (k + 4) u' v') v v1 v2 v3) u v1 v2 v3 := by
  obtain ⟨a0, a1, a2⟩ := u
  obtain rfl : v = (a2 0 &&& 255, mh_P a0, mh_P a1) := I
  have R : i_Rel (k + 4) (a0, a1, a2) (a2 0 &&& 255, mh_P a0, mh_P a1) := rfl
  by_cases h1 : v1 < 0
  · exact br_t h1 (br_t h1 ⟨rfl, R⟩)
  by_cases h2 : 3 < v1
  · exact br_f h1 (br_t h2 (br_f h1 (br_t h2 ⟨rfl, R⟩)))
  by_cases h3 : v2 < 0
  · exact br_f h1 (br_f h2 (br_t h3 (br_f h1 (br_f h2 (br_t h3 ⟨rfl, R⟩)))))
  by_cases h4 : v2 ≤ 3
  · by_cases h5 : v3 < 0
    · exact br_f h1 (br_f h2 (br_f h3 (br_t h4 (br_t h5 (br_f h1 (br_f h2 (br_f h3 (br_t h4 (br_t h5 ⟨rfl, R⟩)))))))))
    by_cases h6 : v3 ≤ 255
    · obtain ⟨x, hx, rfl⟩ := nI_of2 (M := 3) (n := 3) (by decide) h1 (Int32.not_lt.mp h2)
      obtain ⟨y, hy, rfl⟩ := nI_of2 (M := 3) (n := 3) (by decide) h3 h4
      obtain ⟨q, hq, rfl⟩ := nI_of2 (M := 255) (n := 255) (by decide) h5 h6
      have hi : vp_in (nI y * 4 + nI x) 16 := pk_in (y * 4 + x) 16 (by omega) (mh_ix 4 x y)
      refine br_f h1 (br_f h2 (br_f h3 (br_t h4 (br_f h5 (br_t h6 ⟨hi, fun a ea => br_f h1 (br_f h2 (br_f h3 (br_t h4 (br_f h5 (br_t h6 ⟨hi, fun b eb => ⟨rfl, ?_⟩⟩)))))⟩)))))
      rw [ea, eb]
      show (a2 0 &&& 255, upd (mh_P a0) (nI y * 4 + nI x).toNatClampNeg (mh_s (nI q)), mh_P a1) = (a2 0 &&& 255, mh_P (upd a0 (nI y * 4 + nI x).toNatClampNeg (mh_b (nI q))), mh_P a1)
      rw [mh_P_upd, mh_sq (by omega), mh_bq (by omega)]
    · exact br_f h1 (br_f h2 (br_f h3 (br_t h4 (br_f h5 (br_f h6 (br_f h1 (br_f h2 (br_f h3 (br_t h4 (br_f h5 (br_f h6 ⟨rfl, R⟩)))))))))))
  · exact br_f h1 (br_f h2 (br_f h3 (br_f h4 (br_f h1 (br_f h2 (br_f h3 (br_f h4 ⟨rfl, R⟩)))))))
theorem i_vc_rebuild {k : Nat} {u : SX} {v : SY} (I : i_Rel k u v) (hk : k + 4 ≤ 2048) : wpX_rebuild (fun r u' => wpY_rebuild (fun r' v' => r' = r ∧ i_Rel (k + 4) u' v') v) u := by
  obtain ⟨a0, a1, a2⟩ := u
  obtain rfl : v = (a2 0 &&& 255, mh_P a0, mh_P a1) := I
  exact mh_X (mh_Y ⟨mh_top (a2 := a2), congrArg (fun t => (t, mh_P a0, mh_P (mh_L a0 a1))) (mh_top (a2 := a2))⟩)
theorem i_vc_texel {k : Nat} {u : SX} {v : SY} (I : i_Rel k u v) (hk : k + 4 ≤ 2048) (v1 : Int32) (v2 : Int32) (v3 : Int32) : wpX_texel (fun r => wpY_texel (fun r' => r' = r ∧ i_Rel (k + 4) u v) v v1 v2 v3) u v1 v2 v3 := by
  obtain ⟨a0, a1, a2⟩ := u
  obtain rfl : v = (a2 0 &&& 255, mh_P a0, mh_P a1) := I
  have R : i_Rel (k + 4) (a0, a1, a2) (a2 0 &&& 255, mh_P a0, mh_P a1) := rfl
  by_cases h1 : v1 < 0
  · exact br_t h1 (br_t h1 ⟨rfl, R⟩)
  by_cases h2 : v1 ≤ 2
  · obtain ⟨l, hl, rfl⟩ := nI_of2 (M := 2) (n := 2) (by decide) h1 h2
    obtain ⟨s, hs, es⟩ : ∃ s : Nat, (l = 0 ∧ s = 4 ∨ l = 1 ∧ s = 2 ∨ l = 2 ∧ s = 1) ∧ (4 : Int32) >>> (nI l &&& 31) = nI s := by
      have hl' : l = 0 ∨ l = 1 ∨ l = 2 := by omega
      rcases hl' with rfl | rfl | rfl
      · exact ⟨4, by omega, by decide +kernel⟩
      · exact ⟨2, by omega, by decide +kernel⟩
      · exact ⟨1, by omega, by decide +kernel⟩
    refine br_f h1 (br_t h2 (nm_r es ?_))
    by_cases h3 : v2 < 0
    · exact br_t h3 (br_f h1 (br_t h2 (nm_r es (br_t h3 ⟨rfl, R⟩))))
    by_cases h4 : nI s ≤ v2
    · exact br_f h3 (br_t h4 (br_f h1 (br_t h2 (nm_r es (br_f h3 (br_t h4 ⟨rfl, R⟩))))))
    by_cases h5 : v3 < 0
    · exact br_f h3 (br_f h4 (br_t h5 (br_f h1 (br_t h2 (nm_r es (br_f h3 (br_f h4 (br_t h5 ⟨rfl, R⟩))))))))
    by_cases h6 : v3 < nI s
    · obtain ⟨x, hx, rfl⟩ := nI_of h3
      obtain ⟨y, hy, rfl⟩ := nI_of h5
      have hx' : x < s := by rw [nI_leI (by omega) hx] at h4; omega
      have hy' : y < s := by rw [nI_ltI hy (by omega)] at h6; exact h6
      refine br_f h3 (br_f h4 (br_f h5 (br_t h6 (nm_r (mh_ix s x y) ?_))))
      rcases hs with ⟨rfl, rfl⟩ | ⟨rfl, rfl⟩ | ⟨rfl, rfl⟩
      · refine br_t nI_0 ⟨vp_in_nI (by omega) (by decide), br_f h1 (br_t h2 (nm_r es (br_f h3 (br_f h4 (br_f h5 (br_t h6 (br_t nI_0 ⟨pk_in (y * 4 + x) 16 (by omega) (mh_ix 4 x y), ?_, R⟩)))))))⟩
        exact congrArg (fun i : Int32 => mh_P a0 i.toNatClampNeg) (mh_ix 4 x y)
      · have n0 : ¬ nI 1 = 0 := by decide +kernel
        have n1 : nI 1 = 1 := by decide +kernel
        refine br_f n0 (br_t n1 ⟨vp_in_nI (by omega) (by decide), br_f h1 (br_t h2 (nm_r es (br_f h3 (br_f h4 (br_f h5 (br_t h6 (br_f n0 (br_t n1 ⟨pk_in (y * 2 + x) 4 (by omega) (mh_ix 2 x y), ?_, R⟩))))))))⟩)
        exact congrArg (fun i : Int32 => mh_P a1 i.toNatClampNeg) (mh_ix 2 x y)
      · have n0 : ¬ nI 2 = 0 := by decide +kernel
        have n1 : ¬ nI 2 = 1 := by decide +kernel
        refine br_f n0 (br_f n1 ⟨vp_in_nI (by omega) (by decide), br_f h1 (br_t h2 (nm_r es (br_f h3 (br_f h4 (br_f h5 (br_t h6 (br_f n0 (br_f n1 ⟨?_, R⟩))))))))⟩)
        rw [nI_clamp (by omega), show y * 1 + x = 0 from by omega]
    · exact br_f h3 (br_f h4 (br_f h5 (br_f h6 (br_f h1 (br_t h2 (nm_r es (br_f h3 (br_f h4 (br_f h5 (br_f h6 ⟨rfl, R⟩))))))))))
  · exact br_f h1 (br_f h2 (br_f h1 (br_f h2 ⟨rfl, R⟩)))
end
