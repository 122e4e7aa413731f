section
/-- what the reference's loop reckons over its first n bits -/
def vn_val (b : Nat → Int32) : Nat → Int32
  | 0 => 0
  | n + 1 => vn_val b n * 2 + b n
theorem vn_val_s (b : Nat → Int32) (n : Nat) : vn_val b (n + 1) = vn_val b n * 2 + b n := rfl
theorem vn_ext {b b' : Nat → Int32} : ∀ n : Nat, (∀ j, j < n → b' j = b j) → vn_val b' n = vn_val b n := by
  intro n
  induction n with
  | zero => intro _; rfl
  | succ n ih =>
    intro h
    rw [vn_val_s, vn_val_s, ih (fun j hj => h j (Nat.lt_succ_of_lt hj)), h n (Nat.lt_succ_self n)]
theorem vn_upd_at (b : Nat → Int32) (c : Nat) (x : Int32) : upd b c x c = x := if_pos rfl
theorem vn_upd_off (b : Nat → Int32) {c j : Nat} (x : Int32) (h : j < c) : upd b c x j = b j := if_neg (Nat.ne_of_lt h)
/-- a bit written behind the first c: the loop's value over c + 1 bits -/
theorem vn_val_upd (b : Nat → Int32) (c : Nat) (x : Int32) : vn_val (upd b c x) (c + 1) = vn_val b c * 2 + x := by
  rw [vn_val_s, vn_upd_at, vn_ext c (fun j hj => vn_upd_off b x hj)]
theorem vn_8 : nI 8 = 8 := by decide +kernel
theorem vn_i8_0 : (nI 0).toInt8.toInt32 = 0 := by decide +kernel
/-- the component's byte against the reference's number: read as 0 .. 255 -/
theorem vn_and : ∀ m : Nat, m < 256 → (nI m).toInt8.toInt32 &&& 255 = nI m := by decide +kernel
/-- the component's shift and 'or' of a bit against the number -/
theorem vn_sh0 : ∀ m : Nat, m < 128 → (((nI m).toInt8.toInt32 <<< ((1 : Int32) &&& 31)).toInt8.toInt32 ||| 0).toInt8.toInt32 = (nI (2 * m)).toInt8.toInt32 := by decide +kernel
theorem vn_sh1 : ∀ m : Nat, m < 128 → (((nI m).toInt8.toInt32 <<< ((1 : Int32) &&& 31)).toInt8.toInt32 ||| 1).toInt8.toInt32 = (nI (2 * m + 1)).toInt8.toInt32 := by decide +kernel
theorem vn_dbl0 : ∀ m : Nat, m < 128 → nI m * 2 + 0 = nI (2 * m) := by decide +kernel
theorem vn_dbl1 : ∀ m : Nat, m < 128 → nI m * 2 + 1 = nI (2 * m + 1) := by decide +kernel
theorem vn_s0 : vp_nar .short (0 : Int32).toInt16.toInt32 = 0 := by rw [vp_nar_short]; decide
theorem vn_s1 : vp_nar .short (1 : Int32).toInt16.toInt32 = 1 := by rw [vp_nar_short]; decide
theorem vn_nb (z : Int32) : narrow .byte (.int z.toInt8.toInt32) = .int z.toInt8.toInt32 := lw_i8_n z
theorem vn_fb (z : Int32) : fits .byte (.int z.toInt8.toInt32) = true := fits_narrow_byte z
/-- the reference's loop from its j-th turn on -/
theorem vn_loop {post : Int32 → SY → Prop} {f_count f_half f_first : Int32} {f_drops : Int64} {b : Nat → Int32} (hp : post (vn_val b 8) (0, f_half, f_first, f_drops, b)) :
    ∀ d j : Nat, j + d = 8 → wY_take_15 post f_count f_half f_first f_drops b (d + 1) (vn_val b j) (nI j) := by
  intro d
  induction d with
  | zero =>
    intro j hj
    have e : j = 8 := hj
    subst e
    have h : (8 : Int32) ≤ nI 8 := by rw [vn_8]; decide
    exact br_t h hp
  | succ d ih =>
    intro j hj
    have h : ¬ (8 : Int32) ≤ nI j := by rw [← vn_8]; exact nI_ge (by omega) (by omega)
    refine br_f h ⟨vp_in_nI (by omega) (by omega), nm_r (e' := vn_val b (j + 1)) ?_ (nm_r (nI_1 j) (ih (j + 1) (by omega)))⟩
    rw [nI_clamp (by omega), vn_val_s]
/-- a bit that is 0 or 1: both entries of feed lead to the join -/
theorem vn_X {post : Int32 → SX → Prop} {x : Int32} (hb : x = 0 ∨ x = 1) {f_pending f_acc f_count : Int32} {f_droppedPairs : Int64} (H : wX_feed_11 post x f_pending f_acc f_count f_droppedPairs) :
    wpX_feed post (f_pending, f_acc, f_count, f_droppedPairs) x :=
  br_c (fun _ => H) (fun h0 => br_c (fun _ => H) (fun h1 => absurd hb (fun q => q.elim h0 h1)))
theorem vn_Y {post : Int32 → SY → Prop} {x : Int32} (hb : x = 0 ∨ x = 1) {f_count f_half f_first : Int32} {f_drops : Int64} {a_bits : Nat → Int32} (H : wY_feed_11 post x f_count f_half f_first f_drops a_bits) :
    wpY_feed post (f_count, f_half, f_first, f_drops, a_bits) x :=
  br_c (fun _ => H) (fun h0 => br_c (fun _ => H) (fun h1 => absurd hb (fun q => q.elim h0 h1)))
end
section
/-- c bits are kept; m is their number: the component holds it as a byte, the reference bit by bit; a half pair is held alike -/
def i_Rel (_ : Nat) (u : SX) (v : SY) : Prop := ∃ (c m : Nat) (pe h fi : Int32) (d : Int64) (b : Nat → Int32),
  u = (pe, (nI m).toInt8.toInt32, nI c, d) ∧ v = (nI c, h, fi, d, b) ∧ c ≤ 8 ∧ m < 2 ^ c ∧ vn_val b c = nI m ∧
  ((pe = -1 ∧ h = 0) ∨ (h = 1 ∧ pe = fi ∧ (fi = 0 ∨ fi = 1)))
theorem i_up {k : Nat} {u : SX} {v : SY} (h : i_Rel k u v) : i_Rel (k + 2) u v := h
theorem i_vc0 : wpX_init (fun u => wpY_init (fun v => i_Rel 0 u v)) := by
  refine ⟨0, 0, -1, 0, 0, 0, fun _ => 0, ?_, ?_, by decide, by decide, nI_0.symm, Or.inl ⟨rfl, rfl⟩⟩
  · rw [vn_i8_0, nI_0]
  · rw [nI_0]
/-- a pair of unlike bits: one bit more on both sides -/
theorem vn_step {k c m : Nat} {fi : Int32} {d : Int64} {b : Nat → Int32} (hc : c < 8) (hm : m < 2 ^ c) (hv : vn_val b c = nI m) (hf : fi = 0 ∨ fi = 1) :
    i_Rel k (-1, (((nI m).toInt8.toInt32 <<< ((1 : Int32) &&& 31)).toInt8.toInt32 ||| fi).toInt8.toInt32, nI c + 1, d)
      (nI c + 1, 0, fi, d, upd b (nI c).toNatClampNeg (vp_nar .short fi.toInt16.toInt32)) := by
  have h7 : 2 ^ c ≤ 2 ^ 7 := Nat.pow_le_pow_right (by decide) (by omega)
  have hm1 : m < 128 := Nat.lt_of_lt_of_le hm h7
  have hp : 2 ^ (c + 1) = 2 ^ c * 2 := Nat.pow_succ 2 c
  rw [nI_clamp (by omega), nI_1]
  rcases hf with rfl | rfl
  · rw [vn_s0]
    refine ⟨c + 1, 2 * m, -1, 0, 0, d, upd b c 0, ?_, rfl, by omega, by omega, ?_, Or.inl ⟨rfl, rfl⟩⟩
    · rw [vn_sh0 m hm1]
    · rw [vn_val_upd, hv, vn_dbl0 m hm1]
  · rw [vn_s1]
    refine ⟨c + 1, 2 * m + 1, -1, 0, 1, d, upd b c 1, ?_, rfl, by omega, by omega, ?_, Or.inl ⟨rfl, rfl⟩⟩
    · rw [vn_sh1 m hm1]
    · rw [vn_val_upd, hv, vn_dbl1 m hm1]
theorem i_vc_feed {k : Nat} {u : SX} {v : SY} (I : i_Rel k u v) (hk : k + 2 ≤ 1024) (v1 : Int32) : wpX_feed (fun r u' => wpY_feed (fun r' v' => r' = r ∧ i_Rel (k + 2) u' v') v v1) u v1 := by
  obtain ⟨c, m, pe, h, fi, d, b, rfl, rfl, hc, hm, hv, hp⟩ := I
  by_cases b0 : v1 = 0 ∨ v1 = 1
  · refine vn_X b0 ?_
    by_cases h8 : c = 8
    · subst h8
      have l8 : ¬ nI 8 < 8 := by rw [vn_8]; decide
      exact br_t vn_8 (vn_Y b0 (br_f l8 ⟨rfl, 8, m, pe, h, fi, d, b, rfl, rfl, hc, hm, hv, hp⟩))
    · have hlt : c < 8 := by omega
      have l8 : nI c < 8 := by rw [← vn_8]; exact nI_lt hlt (by decide)
      have n8 : ¬ nI c = 8 := by
        rw [← vn_8, nI_eq (by omega) (by omega)]
        exact h8
      refine br_f n8 ?_
      rcases hp with ⟨e1, e2⟩ | ⟨e1, e2, hf⟩
      · subst e1 e2
        exact br_f (by decide) (vn_Y b0 (br_t l8 (br_t rfl ⟨rfl, c, m, v1, 1, v1, d, b, rfl, rfl, hc, hm, hv, Or.inr ⟨rfl, rfl, b0⟩⟩)))
      · subst e1 e2
        have h0 : (0 : Int32) ≤ pe := by rcases hf with e | e <;> rw [e] <;> decide
        have n1 : ¬ (1 : Int32) = 0 := by decide
        refine br_t h0 ?_
        by_cases e : pe = v1
        · exact br_t e (nm_e (vn_Y b0 (br_t l8 (br_f n1 (br_t e (nm_e ⟨rfl, c, m, -1, 0, pe, d + 1, b, rfl, rfl, hc, hm, hv, Or.inl ⟨rfl, rfl⟩⟩))))))
        · have st := vn_step (k := k + 2) (d := d) hlt hm hv hf
          refine br_f e (nm_e ⟨vn_nb _, vn_fb _, nm_e ⟨vn_nb _, vn_fb _, nm_e ?_⟩⟩)
          by_cases g : nI c + 1 = 8
          · exact br_t g (vn_Y b0 (br_t l8 (br_f n1 (br_f e (nm_e ⟨vp_in_nI hlt (by decide), nm_e (br_t g ⟨rfl, st⟩)⟩)))))
          · exact br_f g (vn_Y b0 (br_t l8 (br_f n1 (br_f e (nm_e ⟨vp_in_nI hlt (by decide), nm_e (br_f g ⟨rfl, st⟩)⟩)))))
  · have h0 : ¬ v1 = 0 := fun z => b0 (Or.inl z)
    have h1 : ¬ v1 = 1 := fun z => b0 (Or.inr z)
    exact br_f h0 (br_f h1 (br_f h0 (br_f h1 ⟨rfl, c, m, pe, h, fi, d, b, rfl, rfl, hc, hm, hv, hp⟩)))
theorem i_vc_take {k : Nat} {u : SX} {v : SY} (I : i_Rel k u v) (hk : k + 2 ≤ 1024) : wpX_take (fun r u' => wpY_take (fun r' v' => r' = r ∧ i_Rel (k + 2) u' v') v) u := by
  obtain ⟨c, m, pe, h, fi, d, b, rfl, rfl, hc, hm, hv, hp⟩ := I
  by_cases h8 : c = 8
  · subst h8
    have l8 : (8 : Int32) ≤ nI 8 := by rw [vn_8]; decide
    refine br_t l8 (nm_e (br_t l8 ⟨9, vn_loop (b := b) ?_ 8 0 rfl⟩))
    refine ⟨hv.trans (vn_and m hm).symm, 0, 0, pe, h, fi, d, b, ?_, ?_, by decide, by decide, nI_0.symm, hp⟩
    · rw [vn_i8_0, nI_0]
    · rw [nI_0]
  · have l8 : ¬ (8 : Int32) ≤ nI c := by rw [← vn_8]; exact nI_ge (by omega) (by decide)
    exact br_f l8 (br_f l8 ⟨rfl, c, m, pe, h, fi, d, b, rfl, rfl, hc, hm, hv, hp⟩)
theorem i_vc_dropped {k : Nat} {u : SX} {v : SY} (I : i_Rel k u v) (hk : k + 2 ≤ 1024) : wpX_dropped (fun r => wpY_dropped (fun r' => r' = r ∧ i_Rel (k + 2) u v) v) u := by
  obtain ⟨c, m, pe, h, fi, d, b, rfl, rfl, hc, hm, hv, hp⟩ := I
  exact ⟨rfl, c, m, pe, h, fi, d, b, rfl, rfl, hc, hm, hv, hp⟩
theorem i_vc_fill {k : Nat} {u : SX} {v : SY} (I : i_Rel k u v) (hk : k + 2 ≤ 1024) : wpX_fill (fun r => wpY_fill (fun r' => r' = r ∧ i_Rel (k + 2) u v) v) u := by
  obtain ⟨c, m, pe, h, fi, d, b, rfl, rfl, hc, hm, hv, hp⟩ := I
  exact ⟨rfl, c, m, pe, h, fi, d, b, rfl, rfl, hc, hm, hv, hp⟩
end
