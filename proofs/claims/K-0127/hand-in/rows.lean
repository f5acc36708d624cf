section
/-! the field: plain numbers, no program in sight -/
/-- alpha times m, in plain numbers -/
def rs_xn (m : Nat) : Nat := if 2 * m < 256 then 2 * m else (2 * m) ^^^ 285
/-- alpha^e times m -/
def rs_it : Nat → Nat → Nat
  | 0, m => m
  | e + 1, m => rs_it e (rs_xn m)
/-- discrete logarithms to the base 2 (the entry at 0 is unused) -/
def rs_lg : List Nat :=
  [0, 0, 1, 25, 2, 50, 26, 198, 3, 223, 51, 238, 27, 104, 199, 75, 4, 100, 224, 14, 52, 141, 239, 129, 28, 193, 105, 248, 200, 8, 76, 113,
   5, 138, 101, 47, 225, 36, 15, 33, 53, 147, 142, 218, 240, 18, 130, 69, 29, 181, 194, 125, 106, 39, 249, 185, 201, 154, 9, 120, 77, 228, 114, 166,
   6, 191, 139, 98, 102, 221, 48, 253, 226, 152, 37, 179, 16, 145, 34, 136, 54, 208, 148, 206, 143, 150, 219, 189, 241, 210, 19, 92, 131, 56, 70, 64,
   30, 66, 182, 163, 195, 72, 126, 110, 107, 58, 40, 84, 250, 133, 186, 61, 202, 94, 155, 159, 10, 21, 121, 43, 78, 212, 229, 172, 115, 243, 167, 87,
   7, 112, 192, 247, 140, 128, 99, 13, 103, 74, 222, 237, 49, 197, 254, 24, 227, 165, 153, 119, 38, 184, 180, 124, 17, 68, 146, 217, 35, 32, 137, 46,
   55, 63, 209, 91, 149, 188, 207, 205, 144, 135, 151, 178, 220, 252, 190, 97, 242, 86, 211, 171, 20, 42, 93, 158, 132, 60, 57, 83, 71, 109, 65, 162,
   31, 45, 67, 216, 183, 123, 164, 118, 196, 23, 73, 236, 127, 12, 111, 246, 108, 161, 59, 82, 41, 157, 85, 170, 251, 96, 134, 177, 187, 204, 62, 90,
   203, 89, 95, 176, 156, 169, 160, 81, 11, 245, 22, 235, 122, 117, 44, 215, 79, 174, 213, 233, 230, 231, 173, 232, 116, 214, 244, 234, 168, 80, 88, 175]
def rs_log (m : Nat) : Nat := rs_lg.getD m 0
theorem rs_xn_lt : ∀ m, m < 256 → rs_xn m < 256 := by decide +kernel
set_option maxRecDepth 100000 in
theorem rs_log_ok : ∀ m, m < 256 → m ≠ 0 → rs_log m < 255 ∧ rs_it (rs_log m) 1 = m := by decide +kernel
theorem rs_it_255 : rs_it 255 1 = 1 := by decide +kernel
theorem rs_it_add (b : Nat) : ∀ a m, rs_it (a + b) m = rs_it b (rs_it a m) := by
  intro a
  induction a with
  | zero => intro m; rw [Nat.zero_add]; rfl
  | succ a ih => intro m; rw [Nat.succ_add]; exact ih (rs_xn m)
/-- alpha generates: from any element that isn't 0 to any other in fewer than 255 steps -/
theorem rs_ex {m q : Nat} (hm : m < 256) (hm0 : m ≠ 0) (hq : q < 256) (hq0 : q ≠ 0) : ∃ e, e < 255 ∧ rs_it e m = q := by
  have ⟨ha, ea⟩ := rs_log_ok m hm hm0
  have ⟨hb, eb⟩ := rs_log_ok q hq hq0
  generalize rs_log m = a at ha ea
  generalize rs_log q = b at hb eb
  by_cases h : a ≤ b
  · refine ⟨b - a, by omega, ?_⟩
    have e : a + (b - a) = b := by omega
    rw [← ea, ← rs_it_add, e, eb]
  · refine ⟨b + 255 - a, by omega, ?_⟩
    have e : a + (b + 255 - a) = 255 + b := by omega
    rw [← ea, ← rs_it_add, e, rs_it_add, rs_it_255, eb]
/-! the same over ints -/
/-- alpha times v, as both sides reckon it -/
def rs_xt (v : Int32) : Int32 := if v <<< ((1 : Int32) &&& 31) < 256 then v <<< ((1 : Int32) &&& 31) else (v <<< ((1 : Int32) &&& 31)) ^^^ 285
/-- what is stored: v xor p as a char -/
def rs_wr (v p : Int32) : Int32 := vp_nar .char (((v ^^^ p).toUInt32 % 65536).toInt32)
/-- a field element -/
def rs_by (x : Int32) : Prop := ∃ m : Nat, m < 256 ∧ x = nI m
theorem rs_xt_n : ∀ m, m < 256 → rs_xt (nI m) = nI (rs_xn m) := by decide +kernel
theorem rs_ch : ∀ m, m < 256 → vp_nar .char (((nI m).toUInt32 % 65536).toInt32) = nI m := by decide +kernel
theorem rs_xor (a b : Nat) : nI a ^^^ nI b = nI (a ^^^ b) := by
  apply Int32.toBitVec_inj.1
  show BitVec.ofNat 32 a ^^^ BitVec.ofNat 32 b = BitVec.ofNat 32 (a ^^^ b)
  apply BitVec.eq_of_getLsbD_eq
  intro i hi
  simp [hi]
theorem rs_xt_by {x : Int32} (h : rs_by x) : rs_by (rs_xt x) := by
  obtain ⟨m, hm, e⟩ := h
  exact ⟨rs_xn m, rs_xn_lt m hm, by rw [e, rs_xt_n m hm]⟩
theorem rs_wr_by {x p : Int32} (h : rs_by x) (hp : rs_by p) : rs_by (rs_wr x p) := by
  obtain ⟨m, hm, e⟩ := h
  obtain ⟨q, hq, e'⟩ := hp
  have hx : m ^^^ q < 256 := Nat.xor_lt_two_pow (n := 8) hm hq
  refine ⟨m ^^^ q, hx, ?_⟩
  rw [rs_wr, e, e', rs_xor, rs_ch _ hx]
theorem rs_upd_by {a : Nat → Int32} {i : Nat} {x : Int32} (H : ∀ j, rs_by (a j)) (h : rs_by x) : ∀ j, rs_by (upd a i x j) := by
  intro j
  show rs_by (if j = i then x else a j)
  by_cases c : j = i
  · rw [if_pos c]; exact h
  · rw [if_neg c]; exact H j
/-! the four stores of a take, one behind another -/
def rs_t0 (a : Nat → Int32) (p : Int32) : Nat → Int32 := upd a 0 (rs_wr (a 0) p)
def rs_t1 (a : Nat → Int32) (p : Int32) : Nat → Int32 := upd (rs_t0 a p) 1 (rs_wr (rs_xt (rs_t0 a p 1)) p)
def rs_t2 (a : Nat → Int32) (p : Int32) : Nat → Int32 := upd (rs_t1 a p) 2 (rs_wr (rs_xt (rs_xt (rs_t1 a p 2))) p)
def rs_t3 (a : Nat → Int32) (p : Int32) : Nat → Int32 := upd (rs_t2 a p) 3 (rs_wr (rs_xt (rs_xt (rs_xt (rs_t2 a p 3)))) p)
theorem rs_t3_by {a : Nat → Int32} {p : Int32} (H : ∀ j, rs_by (a j)) (hp : rs_by p) : ∀ j, rs_by (rs_t3 a p j) := by
  have H0 : ∀ j, rs_by (rs_t0 a p j) := rs_upd_by H (rs_wr_by (H 0) hp)
  have H1 : ∀ j, rs_by (rs_t1 a p j) := rs_upd_by H0 (rs_wr_by (rs_xt_by (H0 1)) hp)
  have H2 : ∀ j, rs_by (rs_t2 a p j) := rs_upd_by H1 (rs_wr_by (rs_xt_by (rs_xt_by (H1 2))) hp)
  exact rs_upd_by H2 (rs_wr_by (rs_xt_by (rs_xt_by (rs_xt_by (H2 3)))) hp)
end
section
/-! the walks -/
/-- one doubling, as X's loops print it -/
theorem rs_st {v j : Int32} {P : Int32 → Int32 → Prop} (h : P (rs_xt v) (j + 1)) : ∀ x : Int32, x = v <<< ((1 : Int32) &&& 31) → ((x < 256 → ∀ y : Int32, y = j + 1 → P x y) ∧ (¬ x < 256 → ∀ z : Int32, z = x ^^^ 285 → ∀ y : Int32, y = j + 1 → P z y)) := by
  intro x ex
  by_cases c : v <<< ((1 : Int32) &&& 31) < 256
  · rw [rs_xt, if_pos c] at h
    rw [ex]
    exact br_t c (fun y ey => by rw [ey]; exact h)
  · rw [rs_xt, if_neg c] at h
    rw [ex]
    exact br_f c (fun z ez y ey => by rw [ez, ey]; exact h)
theorem rs_y {post : Int32 → Prop} {p : Int32} (h : post (rs_xt p)) : wpY_xt post p := by
  unfold wpY_xt
  intro x ex
  by_cases c : p <<< ((1 : Int32) &&& 31) < 256
  · rw [rs_xt, if_pos c] at h
    rw [ex]
    exact br_t c h
  · rw [rs_xt, if_neg c] at h
    rw [ex]
    exact br_f c h
/-! take -/
theorem rs_inn {post : Int32 → SX → Prop} {J15 : Int32 → (Nat → Int32) → Prop} {x1 x2 f : Int32} {a : Nat → Int32} {n : Nat} {x3 x4 : Int32} (y : Int32) (e : x4 + 1 = y) (c : ¬ x2 ≤ x4) (h : wX_take_30 post J15 x1 x2 f a n (rs_xt x3) y) : wX_take_30 post J15 x1 x2 f a (n + 1) x3 x4 := by
  rw [← e] at h
  exact br_f c (rs_st (P := fun x y => wX_take_30 post J15 x1 x2 f a n x y) h)
theorem rs_end {post : Int32 → SX → Prop} {J15 : Int32 → (Nat → Int32) → Prop} {x1 x2 f : Int32} {a : Nat → Int32} {n : Nat} {x3 x4 : Int32} (y : Int32) (i : Nat) (e : x2 + 1 = y) (ec : x2.toNatClampNeg = i) (c : x2 ≤ x4) (hi : vp_in x2 4) (h : J15 y (upd a i (rs_wr x3 x1))) : wX_take_30 post J15 x1 x2 f a (n + 1) x3 x4 := by
  refine br_t c (And.intro hi (fun b eb z ez => ?_))
  rw [ec] at eb
  rw [eb, ez, e]
  exact h
theorem rs_out {post : Int32 → SX → Prop} {x1 f : Int32} {n : Nat} {x2 : Int32} {a : Nat → Int32} (i : Nat) (ec : x2.toNatClampNeg = i) (c : ¬ 4 ≤ x2) (hi : vp_in x2 4) (q : Nat) (h : wX_take_30 post (wX_take_15 post x1 f n) x1 x2 f a q (a i) 0) : wX_take_15 post x1 f (n + 1) x2 a := by
  refine br_f c (And.intro hi (fun x ex => ⟨q, ?_⟩))
  rw [ec] at ex
  rw [ex]
  exact h
theorem rs_fin {post : Int32 → SX → Prop} {x1 f : Int32} {n : Nat} {x2 : Int32} {a : Nat → Int32} (c : 4 ≤ x2) (h : post (f + 1) (f + 1, a)) : wX_take_15 post x1 f (n + 1) x2 a := by
  refine br_t c (fun g eg => ?_)
  rw [eg]
  exact h
theorem rs_in0 : vp_in 0 4 := vp_in_iff.mpr (by decide)
theorem rs_in1 : vp_in 1 4 := vp_in_iff.mpr (by decide)
theorem rs_in2 : vp_in 2 4 := vp_in_iff.mpr (by decide)
theorem rs_in3 : vp_in 3 4 := vp_in_iff.mpr (by decide)
theorem rs_X15 {post : Int32 → SX → Prop} {p f : Int32} {a : Nat → Int32} (h : post (f + 1) (f + 1, rs_t3 a p)) : wX_take_15 post p f 5 0 a := by
  refine rs_out 0 (by decide) (by decide) rs_in0 1 (rs_end 1 0 (by decide) (by decide) (by decide) rs_in0 ?_)
  refine rs_out 1 (by decide) (by decide) rs_in1 2 (rs_inn 1 (by decide) (by decide) (rs_end 2 1 (by decide) (by decide) (by decide) rs_in1 ?_))
  refine rs_out 2 (by decide) (by decide) rs_in2 3 (rs_inn 1 (by decide) (by decide) (rs_inn 2 (by decide) (by decide) (rs_end 3 2 (by decide) (by decide) (by decide) rs_in2 ?_)))
  refine rs_out 3 (by decide) (by decide) rs_in3 4 (rs_inn 1 (by decide) (by decide) (rs_inn 2 (by decide) (by decide) (rs_inn 3 (by decide) (by decide) (rs_end 4 3 (by decide) (by decide) (by decide) rs_in3 ?_))))
  exact rs_fin (by decide) h
theorem rs_Yt {post : Int32 → SY → Prop} {p f : Int32} {a : Nat → Int32} (h0 : ¬ p < 0) (h1 : p ≤ 255) (h : post (f + 1) (f + 1, rs_t3 a p)) : wpY_take post (f, a) p := by
  unfold wpY_take
  refine br_f h0 (br_t h1 ?_)
  intro a4 e4
  refine rs_y ?_
  intro a7 e7
  refine rs_y (rs_y ?_)
  intro a11 e11
  refine rs_y (rs_y (rs_y ?_))
  intro a16 e16 f17 e17
  have e : a16 = rs_t3 a p := by rw [e16, e11, e7, e4]; rfl
  rw [e, e17]
  exact h
/-! locate -/
theorem rs_scan (f : Int32) (a : Nat → Int32) (q : Nat) (hq : q < 256) (ha : a 1 = nI q) : ∀ d j m : Nat, j + d = 255 → m < 256 → (∃ e, e < d ∧ rs_it e m = q) → ∃ r : Int32, (∀ post : Int32 → Prop, post r → wX_locate_29 post (a 1) f a d (nI m) (nI j)) ∧ (∀ post : Int32 → Prop, post r → wY_locate_29 post f a d (nI j) (nI m)) := by
  intro d
  induction d with
  | zero =>
    intro j m hj hm hx
    obtain ⟨e, he, hit⟩ := hx
    exact absurd he (Nat.not_lt_zero e)
  | succ d ih =>
    intro j m hj hm hx
    obtain ⟨e, he, hit⟩ := hx
    have h : ¬ (255 : Int32) ≤ nI j := nI_ge (b := 255) (by omega) (by decide)
    by_cases z : m = q
    · have ez : nI m = a 1 := by rw [z, ha]
      by_cases c : f ≤ nI j
      · exact ⟨-1, fun _ hp => br_f h (br_t ez (br_t c hp)), fun _ hp => br_t ez (br_t c hp)⟩
      · exact ⟨nI j, fun _ hp => br_f h (br_t ez (br_f c hp)), fun _ hp => br_t ez (br_f c hp)⟩
    · have ne : ¬ nI m = a 1 := by
        rw [ha, nI_eq (by omega) (by omega)]
        exact z
      cases e with
      | zero => exact absurd hit z
      | succ e =>
        obtain ⟨r, hX, hY⟩ := ih (j + 1) (rs_xn m) (by omega) (rs_xn_lt m hm) ⟨e, by omega, hit⟩
        refine ⟨r, fun post hp => br_f h (br_f ne (rs_st (P := fun x y => wX_locate_29 post (a 1) f a d x y) ?_)), fun post hp => br_f ne (br_f h (rs_y ?_))⟩
        · rw [rs_xt_n m hm, nI_1]
          exact hX post hp
        · intro y ey
          rw [ey, rs_xt_n m hm, nI_1]
          exact hY post hp
end
section
/-- the two states are the same, and each cell is a field element -/
def i_Rel (k : Nat) (u : SX) (v : SY) : Prop := u = v ∧ ∀ j : Nat, rs_by (u.2 j)
theorem i_up {k : Nat} {u : SX} {v : SY} (h : i_Rel k u v) : i_Rel (k + 2) u v := h
theorem i_vc0 : wpX_init (fun u => wpY_init (fun v => i_Rel 0 u v)) := And.intro rfl (fun j => ⟨0, by decide, nI_0.symm⟩)
theorem i_vc_take {k : Nat} {u : SX} {v : SY} (I : i_Rel k u v) (hk : k + 2 ≤ 1024) (v1 : Int32) : wpX_take (fun r u' => wpY_take (fun r' v' => r' = r ∧ i_Rel (k + 2) u' v') v v1) u v1 := by
  have I2 := i_up I
  obtain ⟨rfl, H⟩ := I
  obtain ⟨f, a⟩ := u
  by_cases h0 : v1 < 0
  · exact br_t h0 (br_t h0 ⟨rfl, I2⟩)
  · by_cases h1 : v1 ≤ 255
    · have hp : rs_by v1 := by
        obtain ⟨m, hm, e⟩ := nI_of2 (M := 255) (n := 255) (by decide) h0 h1
        exact ⟨m, by omega, e⟩
      have R : i_Rel (k + 2) (f + 1, rs_t3 a v1) (f + 1, rs_t3 a v1) := And.intro rfl (rs_t3_by H hp)
      exact br_f h0 (br_t h1 ⟨5, rs_X15 (rs_Yt h0 h1 ⟨rfl, R⟩)⟩)
    · exact br_f h0 (br_f h1 (br_f h0 (br_f h1 ⟨rfl, I2⟩)))
theorem i_vc_clean {k : Nat} {u : SX} {v : SY} (I : i_Rel k u v) (hk : k + 2 ≤ 1024) : wpX_clean (fun r => wpY_clean (fun r' => r' = r ∧ i_Rel (k + 2) u v) v) u := by
  have I2 := i_up I
  obtain ⟨rfl, H⟩ := I
  obtain ⟨f, a⟩ := u
  by_cases h0 : a 0 = 0
  · by_cases h1 : a 1 = 0
    · by_cases h2 : a 2 = 0
      · by_cases h3 : a 3 = 0
        · exact br_t h0 (br_t h1 (br_t h2 (br_t h3 (br_t h0 (br_t h1 (br_t h2 (br_t h3 ⟨rfl, I2⟩)))))))
        · exact br_t h0 (br_t h1 (br_t h2 (br_f h3 (br_t h0 (br_t h1 (br_t h2 (br_f h3 ⟨rfl, I2⟩)))))))
      · exact br_t h0 (br_t h1 (br_f h2 (br_t h0 (br_t h1 (br_f h2 ⟨rfl, I2⟩)))))
    · exact br_t h0 (br_f h1 (br_t h0 (br_f h1 ⟨rfl, I2⟩)))
  · exact br_f h0 (br_f h0 ⟨rfl, I2⟩)
theorem rs_and (y : Int32) : vp_in (y &&& 3) 4 := by
  have h : (y &&& 3).toBitVec.toNat < 4 := by
    rw [Int32.toBitVec_and, BitVec.toNat_and]
    exact Nat.lt_of_le_of_lt Nat.and_le_right (by decide)
  have e : (y &&& 3).toInt = (y &&& 3).toBitVec.toInt := rfl
  rw [vp_in_iff, e, BitVec.toInt_eq_toNat_of_lt (by omega)]
  omega
theorem i_vc_syndrome {k : Nat} {u : SX} {v : SY} (I : i_Rel k u v) (hk : k + 2 ≤ 1024) (v1 : Int32) : wpX_syndrome (fun r => wpY_syndrome (fun r' => r' = r ∧ i_Rel (k + 2) u v) v v1) u v1 := by
  have I2 := i_up I
  obtain ⟨rfl, H⟩ := I
  obtain ⟨f, a⟩ := u
  exact And.intro (rs_and v1) (And.intro (rs_and v1) ⟨rfl, I2⟩)
theorem i_vc_locate {k : Nat} {u : SX} {v : SY} (I : i_Rel k u v) (hk : k + 2 ≤ 1024) : wpX_locate (fun r => wpY_locate (fun r' => r' = r ∧ i_Rel (k + 2) u v) v) u := by
  have I2 := i_up I
  obtain ⟨rfl, H⟩ := I
  obtain ⟨f, a⟩ := u
  intro x1 e1 x2 e2
  rw [e1, e2]
  by_cases h0 : a 0 = 0
  · exact br_t h0 (br_t h0 ⟨rfl, I2⟩)
  · by_cases h1 : a 1 = 0
    · exact br_f h0 (br_t h1 (br_f h0 (br_t h1 ⟨rfl, I2⟩)))
    · obtain ⟨m, hm, em⟩ : rs_by (a 0) := H 0
      obtain ⟨q, hq, eq⟩ : rs_by (a 1) := H 1
      have m0 : m ≠ 0 := fun z => h0 (by rw [em, z, nI_0])
      have q0 : q ≠ 0 := fun z => h1 (by rw [eq, z, nI_0])
      obtain ⟨r, hX, hY⟩ := rs_scan f a q hq eq 255 0 m rfl hm (rs_ex hm m0 hq q0)
      rw [← em, nI_0] at hX hY
      refine br_f h0 (br_f h1 ⟨255, hX _ (br_f h0 (br_f h1 ?_))⟩)
      intro y ey
      rw [ey]
      exact ⟨255, hY _ ⟨rfl, I2⟩⟩
end
