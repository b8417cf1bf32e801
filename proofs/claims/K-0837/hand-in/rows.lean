section
/-! rows taken from the kit's rows to paste (starting text) -/
def bt (x : Int32) (i : Nat) : Bool := x.toBitVec.getLsbD i
theorem b_ext {x y : Int32} (h : ∀ i, i < 32 → bt x i = bt y i) : x = y := Int32.toBitVec_inj.mp (BitVec.eq_of_getLsbD_eq (fun i hi => h i hi))
theorem b_and (x y : Int32) (i : Nat) : bt (x &&& y) i = (bt x i && bt y i) := by unfold bt; rw [Int32.toBitVec_and, BitVec.getLsbD_and]
theorem b_big {x : Int32} {i : Nat} (h : 32 ≤ i) : bt x i = false := BitVec.getLsbD_of_ge _ _ h
theorem b_255 (i : Nat) : bt 255 i = decide (i < 8) := by
  rcases Nat.lt_or_ge i 32 with h | h
  · exact (by decide +kernel : ∀ i, i < 32 → bt 255 i = decide (i < 8)) i h
  · rw [b_big h, decide_eq_false (by omega)]
theorem s_l : ∀ n, n < 32 → ((nI n &&& 31).toBitVec.smod 32).toNat = n := by decide +kernel
theorem s_u : ∀ n, n < 32 → (((nI n).toUInt32 &&& Int32.toUInt32 31).toBitVec % 32).toNat = n := by decide +kernel
theorem b_ushr (n : Nat) (hn : n < 32) (x : Int32) (i : Nat) : bt ((x.toUInt32 >>> ((nI n).toUInt32 &&& Int32.toUInt32 31)).toInt32) i = bt x (n + i) := by
  show (x.toUInt32 >>> ((nI n).toUInt32 &&& Int32.toUInt32 31)).toBitVec.getLsbD i = x.toUInt32.toBitVec.getLsbD (n + i)
  rw [UInt32.toBitVec_shiftRight]
  show (x.toUInt32.toBitVec >>> (((nI n).toUInt32 &&& Int32.toUInt32 31).toBitVec % 32).toNat).getLsbD i = _
  rw [s_u n hn, BitVec.getLsbD_ushiftRight]
theorem b_sshr (n : Nat) (hn : n < 32) (x : Int32) {i : Nat} (hi : i < 32) : bt (x >>> (nI n &&& 31)) i = if n + i < 32 then bt x (n + i) else bt x 31 := by
  unfold bt
  rw [Int32.toBitVec_shiftRight]
  show (x.toBitVec.sshiftRight ((nI n &&& 31).toBitVec.smod 32).toNat).getLsbD i = _
  rw [s_l n hn, BitVec.getLsbD_sshiftRight, BitVec.msb_eq_getLsbD_last]
  simp [hi]
theorem bp_b (x : Int32) : x.toInt8.toInt32 &&& 255 = x &&& 255 := by
  apply Int32.toBitVec_inj.mp
  rw [Int32.toBitVec_and, Int32.toBitVec_and, Int8.toBitVec_toInt32, Int32.toBitVec_toInt8]
  apply BitVec.eq_of_getLsbD_eq
  intro i hi
  rw [BitVec.getLsbD_and, BitVec.getLsbD_and]
  have hm : ∀ i < 32, 8 ≤ i → (255 : Int32).toBitVec.getLsbD i = false := by decide
  rcases Nat.lt_or_ge i 8 with z | z
  · rw [BitVec.getLsbD_signExtend, BitVec.getLsbD_signExtend, if_pos z, if_pos hi]
    simp only [z, hi, decide_true, Bool.true_and]
  · rw [hm i hi z]; simp
theorem pk_us {f : Nat → Int32} {k : Nat} {x : Int32} : upd f k x k = x := if_pos rfl
theorem pk_un {f : Nat → Int32} {k j : Nat} {x : Int32} (h : j ≠ k) : upd f k x j = f j := if_neg h
theorem pk_tn {n : Nat} (h : n < 2 ^ 32) : (nI n).toBitVec.toNat = n := Nat.mod_eq_of_lt h
theorem pk_and (x : Int32) {m : Int32} (k : Nat) (hm : m.toBitVec.toNat = 2 ^ k - 1) : x &&& m = nI (x.toBitVec.toNat % 2 ^ k) := by
  apply Int32.toBitVec_inj.mp
  apply BitVec.eq_of_toNat_eq
  rw [Int32.toBitVec_and, BitVec.toNat_and, hm, Nat.and_two_pow_sub_one_eq_mod]
  show _ = (BitVec.ofNat 32 _).toNat
  rw [BitVec.toNat_ofNat]
  exact (Nat.mod_eq_of_lt (Nat.lt_of_le_of_lt (Nat.mod_le _ _) x.toBitVec.isLt)).symm
theorem pk_andE (x : Int32) {m : Int32} (k : Nat) (hm : m.toBitVec.toNat = 2 ^ k - 1) : ∃ j : Nat, j < 2 ^ k ∧ x &&& m = nI j := ⟨_, Nat.mod_lt _ (Nat.two_pow_pos k), pk_and x k hm⟩
theorem pk_andIn (x : Int32) {m : Int32} (k : Nat) (hm : m.toBitVec.toNat = 2 ^ k - 1) (hk : k ≤ 30) : vp_in (x &&& m) (2 ^ k) := by
  obtain ⟨j, hj, e⟩ := pk_andE x k hm
  rw [e]
  exact vp_in_nI hj (Nat.lt_of_le_of_lt (Nat.pow_le_pow_right (by decide) hk) (by decide))
theorem pk_nb (z : Int32) : narrow .byte (.int z.toInt8.toInt32) = .int z.toInt8.toInt32 := congrArg Value.int (by simp)
theorem pk_fb (r : Int32) : fits .byte (.int r.toInt8.toInt32) = true := by
  have ⟨a, b⟩ := lg_i2b_range r
  have h1 : (-128 : Int32).toInt = -128 := by decide
  have h2 : (127 : Int32).toInt = 127 := by decide
  simp only [fits, Bool.and_eq_true, decide_eq_true_eq, Int32.le_iff_toInt_le, h1, h2]
  omega
end
section
/-! the substitution of one byte, the round word, the round constant's next value; each side's step against them -/
/-- the table of nibbles as the component's constructor fills it -/
def ak_nib (a : Nat → Int32) : Prop := ∀ j : Nat, j < 16 → a j = ((7 * nI j) + 3) &&& 15
/-- one byte substituted (the low 8 bits of y) -/
def ak_s (y : Int32) : Int32 := (((((7 * ((y.toUInt32 >>> ((4 : Int32).toUInt32 &&& Int32.toUInt32 31)).toInt32 &&& 15)) + 3) &&& 15)) <<< ((4 : Int32) &&& 31)) ||| (((7 * (y &&& 15)) + 3) &&& 15)
/-- the word turned by a byte -/
def ak_r (w : Int32) : Int32 := (w <<< ((8 : Int32) &&& 31)) ||| ((w.toUInt32 >>> ((24 : Int32).toUInt32 &&& Int32.toUInt32 31)).toInt32)
/-- what is added to the first word: t is the turned word, c the round constant's low byte -/
def ak_t (t c : Int32) : Int32 := ((((ak_s (t.toUInt32 >>> ((24 : Int32).toUInt32 &&& Int32.toUInt32 31)).toInt32 <<< ((24 : Int32) &&& 31)) ||| (ak_s (t.toUInt32 >>> ((16 : Int32).toUInt32 &&& Int32.toUInt32 31)).toInt32 <<< ((16 : Int32) &&& 31))) ||| (ak_s (t.toUInt32 >>> ((8 : Int32).toUInt32 &&& Int32.toUInt32 31)).toInt32 <<< ((8 : Int32) &&& 31))) ||| ak_s t) ^^^ (c <<< ((24 : Int32) &&& 31))
/-- the round constant doubled, before it is cut to a byte -/
def ak_d (c : Int32) : Int32 := if c <<< ((1 : Int32) &&& 31) ≤ 255 then c <<< ((1 : Int32) &&& 31) else (c <<< ((1 : Int32) &&& 31)) ^^^ 283
theorem ak_b15 (i : Nat) : bt 15 i = decide (i < 4) := by
  rcases Nat.lt_or_ge i 32 with h | h
  · exact (by decide +kernel : ∀ i, i < 32 → bt 15 i = decide (i < 4)) i h
  · rw [b_big h, decide_eq_false (by omega)]
theorem ak_hi (y : Int32) : ((y &&& 255) >>> ((4 : Int32) &&& 31)) &&& 15 = (y.toUInt32 >>> ((4 : Int32).toUInt32 &&& Int32.toUInt32 31)).toInt32 &&& 15 := by
  apply b_ext
  intro i hi
  have e1 : bt ((y &&& 255) >>> ((4 : Int32) &&& 31)) i = if 4 + i < 32 then bt (y &&& 255) (4 + i) else bt (y &&& 255) 31 := b_sshr 4 (by decide) (y &&& 255) hi
  have e2 : bt ((y.toUInt32 >>> ((4 : Int32).toUInt32 &&& Int32.toUInt32 31)).toInt32) i = bt y (4 + i) := b_ushr 4 (by decide) y i
  rw [b_and, b_and, e1, e2, ak_b15]
  rcases Nat.lt_or_ge i 4 with h | h
  · rw [if_pos (by omega), b_and, b_255, decide_eq_true (show 4 + i < 8 by omega), Bool.and_true]
  · rw [decide_eq_false (show ¬ i < 4 by omega), Bool.and_false, Bool.and_false]
theorem ak_lo (y : Int32) : (y &&& 255) &&& 15 = y &&& 15 := by
  apply b_ext
  intro i hi
  rw [b_and, b_and, b_and, b_255, ak_b15]
  rcases Nat.lt_or_ge i 4 with h | h
  · rw [decide_eq_true (show i < 8 by omega), Bool.and_true]
  · rw [decide_eq_false (show ¬ i < 4 by omega), Bool.and_false, Bool.and_false]
theorem ak_in (x : Int32) : vp_in (x &&& 15) 16 := pk_andIn x (m := 15) 4 (by decide) (by decide)
theorem ak_at {a : Nat → Int32} (hn : ak_nib a) (x : Int32) : a (x &&& 15).toNatClampNeg = ((7 * (x &&& 15)) + 3) &&& 15 := by
  obtain ⟨j, hj, e⟩ := pk_andE x (m := 15) 4 (by decide)
  have hj' : j < 16 := hj
  rw [e, nI_clamp (by omega)]
  exact hn j hj'
theorem ak_xsub {post : Int32 → Prop} {w0 w1 w2 w3 rc rd : Int32} {a : Nat → Int32} (hn : ak_nib a) (y : Int32) (h : post (ak_s y)) : wpX_sub post (w0, w1, w2, w3, rc, rd, a) (y &&& 255) := by
  refine And.intro (ak_in _) (And.intro (ak_in _) ?_)
  rw [ak_at hn, ak_at hn, ak_hi, ak_lo]
  exact h
theorem ak_ysub {post : Int32 → Prop} (y : Int32) (h : post (ak_s y)) : wpY_sub post y := h
theorem ak_xstep {post : Int32 → SX → Prop} {w0 w1 w2 w3 rc rd : Int32} {a : Nat → Int32} (hn : ak_nib a) (hr : rd < 10)
    (h : ∀ T : Int32, T = ak_t (ak_r w3) (rc &&& 255) → post (rd + 1) (w0 ^^^ T, w1 ^^^ (w0 ^^^ T), w2 ^^^ (w1 ^^^ (w0 ^^^ T)), w3 ^^^ (w2 ^^^ (w1 ^^^ (w0 ^^^ T))), ak_d (rc &&& 255) &&& 255, rd + 1, a)) :
    wpX_step post (w0, w1, w2, w3, rc, rd, a) := by
  refine br_t hr ?_
  intro t et
  refine ak_xsub hn _ (ak_xsub hn _ (ak_xsub hn _ (ak_xsub hn _ ?_)))
  intro x ex T eT y0 e0 y1 e1 y2 e2 y3 e3 d ed
  have hT : T = ak_t (ak_r w3) (rc &&& 255) := by rw [eT, ex, et]; rfl
  subst e3 e2 e1 e0
  have K := h T hT
  refine br_c (fun hd => ?_) (fun hd => ?_)
  · intro c ec n en
    have hD : ak_d (rc &&& 255) = d := by rw [ed] at hd; rw [ed]; exact if_pos hd
    rw [hD, ← ec, ← en] at K
    exact K
  · intro d' ed' c ec n en
    have hD : ak_d (rc &&& 255) = d' := by rw [ed] at hd; rw [ed', ed]; exact if_neg hd
    rw [hD, ← ec, ← en] at K
    exact K
theorem ak_ystep {post : Int32 → SY → Prop} {rc rd : Int32} {a : Nat → Int32} (hr : rd < 10)
    (h : ∀ T : Int32, T = ak_t (ak_r (a 3)) (rc &&& 255) → post (rd + 1) ((ak_d (rc &&& 255)).toInt8.toInt32, rd + 1, upd (upd (upd (upd a 0 (a 0 ^^^ T)) 1 (a 1 ^^^ (a 0 ^^^ T))) 2 (a 2 ^^^ (a 1 ^^^ (a 0 ^^^ T)))) 3 (a 3 ^^^ (a 2 ^^^ (a 1 ^^^ (a 0 ^^^ T)))))) :
    wpY_step post (rc, rd, a) := by
  refine br_t hr ?_
  intro w ew t et
  refine ak_ysub _ (ak_ysub _ (ak_ysub _ (ak_ysub _ ?_)))
  intro x ex T eT y0 e0 y1 e1 y2 e2 y3 e3 d ed
  have hT : T = ak_t (ak_r (a 3)) (rc &&& 255) := by rw [eT, ex, et, ew]; rfl
  subst e3 e2 e1 e0
  have K := h T hT
  refine br_c (fun hd => ?_) (fun hd => ?_)
  · refine And.intro (pk_nb _) (And.intro (pk_fb _) ?_)
    intro n en
    have hD : ak_d (rc &&& 255) = d := by rw [ed] at hd; rw [ed]; exact if_pos hd
    rw [hD] at K
    rw [en]
    exact K
  · intro d' ed'
    refine And.intro (pk_nb _) (And.intro (pk_fb _) ?_)
    intro n en
    have hD : ak_d (rc &&& 255) = d' := by rw [ed] at hd; rw [ed', ed]; exact if_neg hd
    rw [hD] at K
    rw [en]
    exact K
theorem ak_c (d : Int32) : (d &&& 255) &&& 255 = d.toInt8.toInt32 &&& 255 := by
  rw [bp_b, Int32.and_assoc, Int32.and_self]
end
section
/-- the reference's array holds the component's four words; equal rounds; round constants of equal low bytes; the nibble table is filled -/
def i_Rel (_ : Nat) (u : SX) (v : SY) : Prop := ∃ (rx ry rd : Int32) (t a : Nat → Int32), u = (a 0, a 1, a 2, a 3, rx, rd, t) ∧ v = (ry, rd, a) ∧ rx &&& 255 = ry &&& 255 ∧ ak_nib t
theorem i_up {k : Nat} {u : SX} {v : SY} (h : i_Rel k u v) : i_Rel (k + 3) u v := h
theorem i_vc0 : wpX_init (fun u => wpY_init (fun v => i_Rel 0 u v)) := by
  refine loop_0 (fun n i a => wX_init_14 (fun u => wpY_init (fun v => i_Rel 0 u v)) 0 0 0 0 0 0 n (nI i) a) (fun i a => ∀ j : Nat, j < i → a j = ((7 * nI j) + 3) &&& 15) 16 (fun _ => 0) (fun j hj => absurd hj (Nat.not_lt_zero j)) ?_ ?_
  · intro n a h
    exact br_t (nI_le (a := 16) (b := 16) (by decide) (by decide)) ⟨1, 1, 0, a, fun _ => 0, rfl, rfl, rfl, h⟩
  · intro n i a hi h K
    refine br_f (nI_ge (b := 16) hi (by decide)) ⟨vp_in_nI hi (by decide), ?_⟩
    intro b eb x ex
    rw [ex, nI_1]
    refine K b ?_
    intro j hj
    rw [eb, nI_clamp (by omega)]
    rcases Nat.lt_or_ge j i with z | z
    · rw [pk_un (by omega)]; exact h j z
    · have e : j = i := by omega
      rw [e, pk_us]
theorem ak_four {x : Int32} (h0 : ¬ x < 0) (h3 : x ≤ 3) : x = nI 0 ∨ x = nI 1 ∨ x = nI 2 ∨ x = nI 3 := by
  obtain ⟨j, hj, e⟩ := nI_of2 (M := 3) (n := 3) (by decide) h0 h3
  have hc : j = 0 ∨ j = 1 ∨ j = 2 ∨ j = 3 := by omega
  rcases hc with z | z | z | z
  · exact Or.inl (z ▸ e)
  · exact Or.inr (Or.inl (z ▸ e))
  · exact Or.inr (Or.inr (Or.inl (z ▸ e)))
  · exact Or.inr (Or.inr (Or.inr (z ▸ e)))
theorem i_vc_load {k : Nat} {u : SX} {v : SY} (I : i_Rel k u v) (hk : k + 3 ≤ 1536) (v1 : Int32) (v2 : Int32) : wpX_load (fun r u' => wpY_load (fun r' v' => r' = r ∧ i_Rel (k + 3) u' v') v v1 v2) u v1 v2 := by
  obtain ⟨rx, ry, rd, t, a, rfl, rfl, hc, hn⟩ := I
  by_cases h0 : v1 < 0
  · exact br_t h0 (br_t h0 ⟨rfl, rx, ry, rd, t, a, rfl, rfl, hc, hn⟩)
  · by_cases h3 : v1 ≤ 3
    · refine br_f h0 (br_t h3 ?_)
      rcases ak_four h0 h3 with rfl | rfl | rfl | rfl
      · refine br_t (by decide +kernel) (br_f h0 (br_t h3 ⟨vp_in_nI (by decide) (by decide), ?_⟩))
        intro b eb
        rw [nI_clamp (by decide)] at eb
        subst eb
        exact ⟨rfl, rx, ry, rd, t, upd a 0 v2, rfl, rfl, hc, hn⟩
      · refine br_f (by decide +kernel) (br_t (by decide +kernel) (br_f h0 (br_t h3 ⟨vp_in_nI (by decide) (by decide), ?_⟩)))
        intro b eb
        rw [nI_clamp (by decide)] at eb
        subst eb
        exact ⟨rfl, rx, ry, rd, t, upd a 1 v2, rfl, rfl, hc, hn⟩
      · refine br_f (by decide +kernel) (br_f (by decide +kernel) (br_t (by decide +kernel) (br_f h0 (br_t h3 ⟨vp_in_nI (by decide) (by decide), ?_⟩))))
        intro b eb
        rw [nI_clamp (by decide)] at eb
        subst eb
        exact ⟨rfl, rx, ry, rd, t, upd a 2 v2, rfl, rfl, hc, hn⟩
      · refine br_f (by decide +kernel) (br_f (by decide +kernel) (br_f (by decide +kernel) (br_f h0 (br_t h3 ⟨vp_in_nI (by decide) (by decide), ?_⟩))))
        intro b eb
        rw [nI_clamp (by decide)] at eb
        subst eb
        exact ⟨rfl, rx, ry, rd, t, upd a 3 v2, rfl, rfl, hc, hn⟩
    · exact br_f h0 (br_f h3 (br_f h0 (br_f h3 ⟨rfl, rx, ry, rd, t, a, rfl, rfl, hc, hn⟩)))
theorem i_vc_step {k : Nat} {u : SX} {v : SY} (I : i_Rel k u v) (hk : k + 3 ≤ 1536) : wpX_step (fun r u' => wpY_step (fun r' v' => r' = r ∧ i_Rel (k + 3) u' v') v) u := by
  obtain ⟨rx, ry, rd, t, a, rfl, rfl, hc, hn⟩ := I
  by_cases hr : rd < 10
  · refine ak_xstep hn hr ?_
    intro T eT
    refine ak_ystep hr ?_
    intro T' eT'
    rw [← hc] at eT'
    rw [eT', ← eT, ← hc]
    exact ⟨rfl, _, _, _, t, _, rfl, rfl, ak_c _, hn⟩
  · exact br_f hr (br_f hr ⟨rfl, rx, ry, rd, t, a, rfl, rfl, hc, hn⟩)
theorem i_vc_word {k : Nat} {u : SX} {v : SY} (I : i_Rel k u v) (hk : k + 3 ≤ 1536) (v1 : Int32) : wpX_word (fun r => wpY_word (fun r' => r' = r ∧ i_Rel (k + 3) u v) v v1) u v1 := by
  have J : i_Rel (k + 3) u v := I
  obtain ⟨rx, ry, rd, t, a, rfl, rfl, hc, hn⟩ := I
  by_cases h0 : v1 < 0
  · exact br_t h0 (br_t h0 ⟨rfl, J⟩)
  · by_cases h3 : v1 ≤ 3
    · refine br_f h0 (br_t h3 ?_)
      rcases ak_four h0 h3 with rfl | rfl | rfl | rfl
      · refine br_t (by decide +kernel) (br_f h0 (br_t h3 ⟨vp_in_nI (by decide) (by decide), ?_, J⟩))
        rw [nI_clamp (by decide)]
      · refine br_f (by decide +kernel) (br_t (by decide +kernel) (br_f h0 (br_t h3 ⟨vp_in_nI (by decide) (by decide), ?_, J⟩)))
        rw [nI_clamp (by decide)]
      · refine br_f (by decide +kernel) (br_f (by decide +kernel) (br_t (by decide +kernel) (br_f h0 (br_t h3 ⟨vp_in_nI (by decide) (by decide), ?_, J⟩))))
        rw [nI_clamp (by decide)]
      · refine br_f (by decide +kernel) (br_f (by decide +kernel) (br_f (by decide +kernel) (br_f h0 (br_t h3 ⟨vp_in_nI (by decide) (by decide), ?_, J⟩))))
        rw [nI_clamp (by decide)]
    · exact br_f h0 (br_f h3 (br_f h0 (br_f h3 ⟨rfl, J⟩)))
end
