section
/-! rows of kit/rows taken as they stand: bits of an Int32 (BITS), upd and a byte's narrow and fits (PURE-ROWS) -/
theorem pk_us {f : Nat → Int32} {k : Nat} {x : Int32} : upd f k x k = x := if_pos rfl
theorem pk_un {f : Nat → Int32} {k j : Nat} {x : Int32} (h : j ≠ k) : upd f k x j = f j := if_neg h
theorem pk_nb (z : Int32) : narrow .byte (.int z.toInt8.toInt32) = .int z.toInt8.toInt32 := congrArg Value.int (by simp)
theorem pk_fb (r : Int32) : fits .byte (.int r.toInt8.toInt32) = true := by
  have ⟨a, b⟩ := lg_i2b_range r
  have h1 : (-128 : Int32).toInt = -128 := by decide
  have h2 : (127 : Int32).toInt = 127 := by decide
  simp only [fits, Bool.and_eq_true, decide_eq_true_eq, Int32.le_iff_toInt_le, h1, h2]
  omega
def bt (x : Int32) (i : Nat) : Bool := x.toBitVec.getLsbD i
theorem b_ext {x y : Int32} (h : ∀ i, i < 32 → bt x i = bt y i) : x = y := Int32.toBitVec_inj.mp (BitVec.eq_of_getLsbD_eq (fun i hi => h i hi))
theorem b_or (x y : Int32) (i : Nat) : bt (x ||| y) i = (bt x i || bt y i) := by unfold bt; rw [Int32.toBitVec_or, BitVec.getLsbD_or]
theorem b_and (x y : Int32) (i : Nat) : bt (x &&& y) i = (bt x i && bt y i) := by unfold bt; rw [Int32.toBitVec_and, BitVec.getLsbD_and]
theorem b_xor (x y : Int32) (i : Nat) : bt (x ^^^ y) i = (bt x i ^^ bt y i) := by unfold bt; rw [Int32.toBitVec_xor, BitVec.getLsbD_xor]
theorem b_big {x : Int32} {i : Nat} (h : 32 ≤ i) : bt x i = false := BitVec.getLsbD_of_ge _ _ h
theorem b_255 (i : Nat) : bt 255 i = decide (i < 8) := by
  rcases Nat.lt_or_ge i 32 with h | h
  · exact (by decide +kernel : ∀ i, i < 32 → bt 255 i = decide (i < 8)) i h
  · rw [b_big h, decide_eq_false (by omega)]
theorem b_m1 : ∀ i, i < 32 → bt (-1) i = true := by decide +kernel
theorem b_0 (i : Nat) : bt 0 i = false := BitVec.getLsbD_zero
theorem s_l : ∀ n, n < 32 → ((nI n &&& 31).toBitVec.smod 32).toNat = n := by decide +kernel
theorem b_shl (n : Nat) (hn : n < 32) (x : Int32) {i : Nat} (hi : i < 32) : bt (x <<< (nI n &&& 31)) i = (decide (n ≤ i) && bt x (i - n)) := by
  unfold bt
  rw [Int32.toBitVec_shiftLeft]
  show (x.toBitVec <<< ((nI n &&& 31).toBitVec.smod 32).toNat).getLsbD i = _
  rw [s_l n hn, BitVec.getLsbD_shiftLeft]
  rcases Nat.lt_or_ge i n with h | h
  · simp [h, Nat.not_le.mpr h]
  · simp [hi, h, Nat.not_lt.mpr h]
/-! own rows on bits -/
theorem vd_1 (i : Nat) : bt 1 i = decide (i = 0) := by
  rcases Nat.lt_or_ge i 32 with h | h
  · exact (by decide +kernel : ∀ i, i < 32 → bt 1 i = decide (i = 0)) i h
  · rw [b_big h, decide_eq_false (by omega)]
/-- the bits of 1 << n -/
theorem vd_one {n i : Nat} (hn : n < 32) (hi : i < 32) : bt ((1 : Int32) <<< (nI n &&& 31)) i = decide (i = n) := by
  rw [b_shl n hn 1 hi, vd_1]
  by_cases e : i = n
  · subst e; simp
  · rw [decide_eq_false e]
    rcases Nat.lt_or_ge i n with h | h
    · rw [decide_eq_false (by omega : ¬ n ≤ i), Bool.false_and]
    · rw [decide_eq_false (by omega : ¬ i - n = 0), Bool.and_false]
/-- a mask of one bit asks for that bit -/
theorem vd_msk (x : Int32) {n : Nat} (hn : n < 32) : (x &&& ((1 : Int32) <<< (nI n &&& 31))) = 0 ↔ bt x n = false := by
  constructor
  · intro h
    have h2 := congrArg (fun y => bt y n) h
    rw [b_and, vd_one hn hn, decide_eq_true rfl, Bool.and_true, b_0] at h2
    exact h2
  · intro h
    apply b_ext
    intro j hj
    rw [b_and, vd_one hn hj, b_0]
    by_cases e : j = n
    · subst e; rw [h, Bool.false_and]
    · rw [decide_eq_false e, Bool.and_false]
/-- the bits of a cast to byte -/
theorem vd_i8 (x : Int32) {i : Nat} (hi : i < 32) : bt x.toInt8.toInt32 i = if i < 8 then bt x i else bt x 7 := by
  unfold bt
  rw [Int8.toBitVec_toInt32, Int32.toBitVec_toInt8, BitVec.getLsbD_signExtend, BitVec.msb_eq_getLsbD_last, BitVec.getLsbD_signExtend, BitVec.getLsbD_signExtend]
  by_cases h : i < 8
  · simp [hi, h, BitVec.getLsbD_eq_getElem]
  · simp [hi, h, BitVec.getLsbD_eq_getElem]
theorem vd_i8l (x : Int32) {i : Nat} (h : i < 8) : bt x.toInt8.toInt32 i = bt x i := by
  rw [vd_i8 x (by omega), if_pos h]
/-- two ints with the same low bytes have the same cast to byte -/
theorem vd_b8 {x y : Int32} (h : ∀ i, i < 8 → bt x i = bt y i) : x.toInt8.toInt32 = y.toInt8.toInt32 := by
  apply b_ext
  intro i hi
  rw [vd_i8 x hi, vd_i8 y hi]
  by_cases h8 : i < 8
  · rw [if_pos h8, if_pos h8, h i h8]
  · rw [if_neg h8, if_neg h8, h 7 (by omega)]
/-- and the same low byte, masked -/
theorem vd_m8 (x : Int32) : x.toInt8.toInt32 &&& 255 = x &&& 255 := by
  apply b_ext
  intro i hi
  rw [b_and, b_and, b_255]
  by_cases h8 : i < 8
  · rw [vd_i8l x h8]
  · rw [decide_eq_false h8, Bool.and_false, Bool.and_false]
end
section
/-- a channel's counter by its low and its high bit -/
def vd_c (l h : Bool) : Int32 := bif h then (bif l then 3 else 2) else (bif l then 1 else 0)
/-- the next counter: l, h the old bits, b: the sample differs from the state -/
def vd_n (l h b : Bool) : Int32 := vd_c (!l && b) ((h ^^ l) && b)
theorem vd_n0 (l h : Bool) : vp_nar .byte 0 = vd_n l h false := by
  rw [vp_nar_byte]; cases l <;> cases h <;> decide
theorem vd_n4 {l h : Bool} (e : (vd_c l h + 1).toInt8.toInt32 = 4) : l = true ∧ h = true := by
  revert e; cases l <;> cases h <;> decide
theorem vd_nk {l h : Bool} (e : ¬ (vd_c l h + 1).toInt8.toInt32 = 4) : (l && h) = false := by
  revert e; cases l <;> cases h <;> decide
theorem vd_n1 {l h : Bool} (e : (l && h) = false) : vp_nar .byte ((vd_c l h + 1).toInt8.toInt32) = vd_n l h true := by
  rw [vp_nar_byte]; revert e; cases l <;> cases h <;> decide
theorem vd_8 : nI 8 = 8 := by decide +kernel
/-- the reference's loop from channel i on: T is what toggles in all, L and H the counters' bits at the call -/
theorem vd_loop {post : Int32 → SY → Prop} {x1 s e T : Int32} {L H : Nat → Bool}
    (hT : ∀ j, j < 8 → bt T j = (bt (x1 ^^^ s) j && (L j && H j)))
    (hT8 : ∀ j, 8 ≤ j → bt T j = false)
    (hp : ∀ a : Nat → Int32, (∀ j, j < 8 → a j = vd_n (L j) (H j) (bt (x1 ^^^ s) j)) → post T ((s ^^^ T).toInt8.toInt32, (e ||| ((s ^^^ T).toInt8.toInt32 &&& T)).toInt8.toInt32, a)) :
    ∀ (d i : Nat) (x2 : Int32) (a : Nat → Int32), i + d = 8 →
      (∀ j, j < 32 → bt x2 j = (decide (j < i) && bt T j)) →
      (∀ j, j < i → a j = vd_n (L j) (H j) (bt (x1 ^^^ s) j)) →
      (∀ j, i ≤ j → j < 8 → a j = vd_c (L j) (H j)) →
      wY_sample_4 post x1 s e (d + 1) x2 (nI i) a := by
  intro d
  induction d with
  | zero =>
    intro i x2 a hi hx hlo _
    have h : (8 : Int32) ≤ nI i := by rw [← vd_8]; exact nI_le (by omega) (by omega)
    have ex : x2 = T := by
      apply b_ext
      intro j hj
      rw [hx j hj]
      by_cases h8 : j < i
      · rw [decide_eq_true h8, Bool.true_and]
      · rw [decide_eq_false h8, Bool.false_and, hT8 j (by omega)]
    subst ex
    exact br_t h (nm_e ⟨pk_nb _, pk_fb _, nm_e ⟨pk_nb _, pk_fb _, hp a (fun j hj => hlo j (by omega))⟩⟩)
  | succ d ih =>
    intro i x2 a hi hx hlo hhi
    have h : ¬ (8 : Int32) ≤ nI i := by rw [← vd_8]; exact nI_ge (by omega) (by omega)
    have hin : vp_in (nI i) 8 := vp_in_nI (by omega) (by omega)
    have hcl : (nI i).toNatClampNeg = i := nI_clamp (by omega)
    have hai : a i = vd_c (L i) (H i) := hhi i (Nat.le_refl _) (by omega)
    have hTi := hT i (by omega)
    -- a channel that doesn't toggle
    have keep : bt T i = false → ∀ j, j < 32 → bt x2 j = (decide (j < i + 1) && bt T j) := by
      intro ht j hj
      rw [hx j hj]
      by_cases ej : j = i
      · subst ej; rw [ht, Bool.and_false, Bool.and_false]
      · rw [show decide (j < i + 1) = decide (j < i) from decide_eq_decide.mpr (by omega)]
    -- the array behind channel i
    have lo : ∀ a' : Nat → Int32, (∀ j, j ≠ i → a' j = a j) → a' i = vd_n (L i) (H i) (bt (x1 ^^^ s) i) → ∀ j, j < i + 1 → a' j = vd_n (L j) (H j) (bt (x1 ^^^ s) j) := by
      intro a' h1 h2 j hj
      by_cases ej : j = i
      · subst ej; exact h2
      · rw [h1 j ej]; exact hlo j (by omega)
    have hig : ∀ a' : Nat → Int32, (∀ j, j ≠ i → a' j = a j) → ∀ j, i + 1 ≤ j → j < 8 → a' j = vd_c (L j) (H j) := by
      intro a' h1 j hj h8
      rw [h1 j (by omega)]; exact hhi j (by omega) h8
    refine br_f h (nm_e (br_c (fun z => ⟨hin, nm_e (nm_e ?_)⟩) (fun z => ⟨hin, hin, nm_e (br_c (fun q => ⟨hin, nm_e (nm_e (nm_e ?_))⟩) (fun q => nm_e ?_))⟩)))
    · have zb : bt (x1 ^^^ s) i = false := (vd_msk _ (by omega)).mp z
      rw [nI_1 i, hcl]
      refine ih (i + 1) x2 _ (by omega) (keep ?_) (lo _ (fun j hj => pk_un hj) ?_) (hig _ (fun j hj => pk_un hj))
      · rw [hTi, zb, Bool.false_and]
      · rw [pk_us, zb]; exact vd_n0 _ _
    · have zb : bt (x1 ^^^ s) i = true := by
        cases hb : bt (x1 ^^^ s) i
        · exact absurd ((vd_msk _ (by omega)).mpr hb) z
        · rfl
      rw [hcl, hai] at q
      obtain ⟨ql, qh⟩ := vd_n4 q
      rw [nI_1 i, hcl]
      refine ih (i + 1) _ _ (by omega) ?_ (lo _ (fun j hj => (pk_un hj).trans (pk_un hj)) ?_) (hig _ (fun j hj => (pk_un hj).trans (pk_un hj)))
      · intro j hj
        rw [b_or, hx j hj, vd_one (by omega) hj]
        by_cases ej : j = i
        · subst ej
          rw [hTi, zb, ql, qh, decide_eq_true (by omega : j < j + 1), decide_eq_true rfl, Bool.or_true]; rfl
        · rw [decide_eq_false ej, Bool.or_false, show decide (j < i + 1) = decide (j < i) from decide_eq_decide.mpr (by omega)]
      · rw [pk_us, zb, ql, qh, vp_nar_byte]; decide
    · have zb : bt (x1 ^^^ s) i = true := by
        cases hb : bt (x1 ^^^ s) i
        · exact absurd ((vd_msk _ (by omega)).mpr hb) z
        · rfl
      rw [hcl, hai] at q
      have qk := vd_nk q
      rw [nI_1 i, hcl, hai]
      refine ih (i + 1) x2 _ (by omega) (keep ?_) (lo _ (fun j hj => pk_un hj) ?_) (hig _ (fun j hj => pk_un hj))
      · rw [hTi, qk, Bool.and_false]
      · rw [pk_us, zb]; exact vd_n1 qk
end
section
/-- the byte state and edges are the low bytes of debounced and pending; each counter is its two bits in the planes -/
def i_Rel (_ : Nat) (u : SX) (v : SY) : Prop := v.1 = u.1.toInt8.toInt32 ∧ v.2.1 = u.2.2.2.toInt8.toInt32 ∧ ∀ i, i < 8 → v.2.2 i = vd_c (bt u.2.1 i) (bt u.2.2.1 i)
theorem i_up {k : Nat} {u : SX} {v : SY} (h : i_Rel k u v) : i_Rel (k + 2) u v := h
theorem i_vc0 : wpX_init (fun u => wpY_init (fun v => i_Rel 0 u v)) := by
  refine ⟨by decide, by decide, fun i _ => ?_⟩
  show (0 : Int32) = vd_c (bt 0 i) (bt 0 i)
  rw [b_0]; rfl
theorem i_vc_sample {k : Nat} {u : SX} {v : SY} (I : i_Rel k u v) (hk : k + 2 ≤ 1024) (v1 : Int32) : wpX_sample (fun r u' => wpY_sample (fun r' v' => r' = r ∧ i_Rel (k + 2) u' v') v v1) u v1 := by
  obtain ⟨d, l, h, p⟩ := u
  obtain ⟨s, e, c⟩ := v
  obtain ⟨hs, he, hc⟩ := I
  dsimp only at hs he hc
  intro raw eraw dl edl T eT nh enh nl enl d' ed p' ep
  have hx : ∀ j, j < 8 → bt (v1 ^^^ s) j = (bt v1 j ^^ bt d j) := by
    intro j hj
    rw [b_xor, hs, vd_i8l d hj]
  have hdl : ∀ j, j < 8 → bt dl j = bt (v1 ^^^ s) j := by
    intro j hj
    rw [hx j hj, edl, eraw, b_and, b_xor, b_and, b_255, decide_eq_true hj, Bool.and_true, Bool.and_true]
  have hT : ∀ j, j < 8 → bt T j = (bt (v1 ^^^ s) j && (bt l j && bt h j)) := by
    intro j hj
    rw [eT, b_and, b_and, b_and, b_255, decide_eq_true hj, Bool.and_true, hdl j hj, Bool.and_assoc]
  have hT8 : ∀ j, 8 ≤ j → bt T j = false := by
    intro j hj
    rw [eT, b_and, b_255, decide_eq_false (by omega), Bool.and_false]
  have hnh : ∀ j, j < 8 → bt nh j = ((bt h j ^^ bt l j) && bt (v1 ^^^ s) j) := by
    intro j hj
    rw [enh, b_and, b_and, b_xor, b_255, decide_eq_true hj, Bool.and_true, hdl j hj]
  have hnl : ∀ j, j < 8 → bt nl j = (!bt l j && bt (v1 ^^^ s) j) := by
    intro j hj
    rw [enl, b_and, b_and, b_xor, b_255, decide_eq_true hj, Bool.and_true, hdl j hj, b_m1 j (by omega), Bool.xor_true]
  have hd : ∀ j, j < 8 → bt d' j = (bt d j ^^ bt T j) := by
    intro j hj
    rw [ed, b_and, b_xor, b_255, decide_eq_true hj, Bool.and_true]
  have e1 : (s ^^^ T).toInt8.toInt32 = d'.toInt8.toInt32 := by
    apply vd_b8
    intro j hj
    rw [hd j hj, b_xor, hs, vd_i8l d hj]
  have e2 : (e ||| ((s ^^^ T).toInt8.toInt32 &&& T)).toInt8.toInt32 = p'.toInt8.toInt32 := by
    apply vd_b8
    intro j hj
    rw [e1, ep, b_and, b_or, b_or, b_and, b_and, b_255, decide_eq_true hj, Bool.and_true, he, vd_i8l p hj, vd_i8l d' hj, Bool.and_comm (bt d' j)]
  refine ⟨9, vd_loop (T := T) (L := fun j => bt l j) (H := fun j => bt h j) hT hT8 ?_ 8 0 0 c rfl ?_ ?_ ?_⟩
  · intro a ha
    refine ⟨rfl, e1, e2, fun j hj => ?_⟩
    show a j = vd_c (bt nl j) (bt nh j)
    rw [ha j hj, hnl j hj, hnh j hj]; rfl
  · intro j _
    rw [b_0, decide_eq_false (by omega), Bool.false_and]
  · intro j hj
    exact absurd hj (by omega)
  · intro j _ hj
    exact hc j hj
theorem i_vc_state {k : Nat} {u : SX} {v : SY} (I : i_Rel k u v) (hk : k + 2 ≤ 1024) : wpX_state (fun r => wpY_state (fun r' => r' = r ∧ i_Rel (k + 2) u v) v) u := by
  obtain ⟨d, l, h, p⟩ := u
  obtain ⟨s, e, c⟩ := v
  refine And.intro ?_ I
  have hs : s = d.toInt8.toInt32 := I.1
  rw [hs, vd_m8]
theorem i_vc_pressedEdges {k : Nat} {u : SX} {v : SY} (I : i_Rel k u v) (hk : k + 2 ≤ 1024) : wpX_pressedEdges (fun r u' => wpY_pressedEdges (fun r' v' => r' = r ∧ i_Rel (k + 2) u' v') v) u := by
  obtain ⟨d, l, h, p⟩ := u
  obtain ⟨s, e, c⟩ := v
  intro r er r' er'
  have he : e = p.toInt8.toInt32 := I.2.1
  refine And.intro ?_ ⟨I.1, (by decide : (0 : Int32) = (0 : Int32).toInt8.toInt32), I.2.2⟩
  rw [er', er, he, vd_m8]
end
