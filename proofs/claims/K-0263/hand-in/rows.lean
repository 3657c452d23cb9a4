section
/-! bytes: what a byte array holds, the continuation test and the step, each by a table of 256 -/
/-- a value that a byte array gives -/
def uu_B (x : Int32) : Prop := ∃ z : Int8, x = z.toInt32
def uu_b (c : Nat) : Int32 := (Int8.ofBitVec (BitVec.ofNat 8 c)).toInt32
theorem uu_of {x : Int32} (h : uu_B x) : ∃ c : Nat, c < 256 ∧ x = uu_b c := by
  obtain ⟨z, rfl⟩ := h
  refine ⟨z.toBitVec.toNat, z.toBitVec.isLt, ?_⟩
  unfold uu_b
  rw [BitVec.ofNat_toNat, BitVec.setWidth_eq, Int8.ofBitVec_toBitVec]
theorem uu_0 : uu_B 0 := ⟨0, by decide⟩
/-- the component's mask test is the reference's comparison -/
theorem uu_tc : ∀ c, c < 256 → ((uu_b c &&& 192) = 128 ↔ ¬ (-64) ≤ uu_b c) := by decide +kernel
theorem uu_cont {x : Int32} (h : uu_B x) : (x &&& 192) = 128 ↔ ¬ (-64) ≤ x := by
  obtain ⟨c, hc, rfl⟩ := uu_of h
  exact uu_tc c hc
/-- the component's step -/
def uu_st (x : Int32) : Nat := if ((x &&& 255) &&& 224) = 192 then 2 else if ((x &&& 255) &&& 240) = 224 then 3 else if ((x &&& 255) &&& 248) = 240 then 4 else 1
/-- the reference's step -/
def uu_sy (x : Int32) : Nat := if (x &&& 240) = 192 then 2 else if (x &&& 240) = 208 then 2 else if (x &&& 240) = 224 then 3 else if (x &&& 240) = 240 then (if (x &&& 8) = 0 then 4 else 1) else 1
theorem uu_ts : ∀ c, c < 256 → uu_sy (uu_b c) = uu_st (uu_b c) := by decide +kernel
theorem uu_step {x : Int32} (h : uu_B x) : uu_sy x = uu_st x := by
  obtain ⟨c, hc, rfl⟩ := uu_of h
  exact uu_ts c hc
theorem uu_st4 (x : Int32) : uu_st x ≤ 4 := by
  unfold uu_st
  split
  · omega
  · split
    · omega
    · split <;> omega
/-- the component's tree of tests, over any continuation -/
theorem uu_tx {x : Int32} (F : Int32 → Prop) (h : F (nI (uu_st x))) : ∀ y : Int32, y = x &&& 255 → ((((y &&& 224) = 192 → F 2) ∧ (¬ (y &&& 224) = 192 → ((((y &&& 240) = 224 → F 3) ∧ (¬ (y &&& 240) = 224 → ((((y &&& 248) = 240 → F 4) ∧ (¬ (y &&& 248) = 240 → F 1))))))))) := by
  intro y ey
  subst ey
  unfold uu_st at h
  by_cases h1 : ((x &&& 255) &&& 224) = 192
  · rw [if_pos h1] at h
    exact br_t h1 h
  · rw [if_neg h1] at h
    refine br_f h1 ?_
    by_cases h2 : ((x &&& 255) &&& 240) = 224
    · rw [if_pos h2] at h
      exact br_t h2 h
    · rw [if_neg h2] at h
      refine br_f h2 ?_
      by_cases h3 : ((x &&& 255) &&& 248) = 240
      · rw [if_pos h3] at h
        exact br_t h3 h
      · rw [if_neg h3] at h
        exact br_f h3 h
/-- the reference's tree of tests, over any continuation -/
theorem uu_ty {x : Int32} {V : Prop} (F : Int32 → Prop) (hv : V) (h : F (nI (uu_sy x))) : ∀ k : Int32, k = x &&& 240 → (((k = 192 → F 2) ∧ (¬ k = 192 → (((k = 208 → F 2) ∧ (¬ k = 208 → (((k = 224 → F 3) ∧ (¬ k = 224 → (((k = 240 → (V ∧ ((((x &&& 8) = 0 → F 4) ∧ (¬ (x &&& 8) = 0 → F 1))))) ∧ (¬ k = 240 → F 1)))))))))))) := by
  intro k ek
  subst ek
  unfold uu_sy at h
  by_cases h1 : (x &&& 240) = 192
  · rw [if_pos h1] at h
    exact br_t h1 h
  · rw [if_neg h1] at h
    refine br_f h1 ?_
    by_cases h2 : (x &&& 240) = 208
    · rw [if_pos h2] at h
      exact br_t h2 h
    · rw [if_neg h2] at h
      refine br_f h2 ?_
      by_cases h3 : (x &&& 240) = 224
      · rw [if_pos h3] at h
        exact br_t h3 h
      · rw [if_neg h3] at h
        refine br_f h3 ?_
        by_cases h4 : (x &&& 240) = 240
        · rw [if_pos h4] at h
          refine br_t h4 ⟨hv, ?_⟩
          by_cases h5 : (x &&& 8) = 0
          · rw [if_pos h5] at h
            exact br_t h5 h
          · rw [if_neg h5] at h
            exact br_f h5 h
        · rw [if_neg h4] at h
          exact br_f h4 h
/-- the component masks a byte ahead of the cast: the same byte -/
theorem uu_nar (x : Int32) : vp_nar .byte ((x &&& 255).toInt8.toInt32) = vp_nar .byte x.toInt8.toInt32 := by
  have e : (255 : Int32).toInt8 = -1 := by decide
  rw [Int32.toInt8_and, e, Int8.and_comm, Int8.neg_one_and]
theorem uu_upd {a : Nat → Int32} (h : ∀ j, uu_B (a j)) (k : Nat) (x : Int32) : ∀ j, uu_B (upd a k (vp_nar .byte x) j) := by
  intro j
  unfold upd
  split
  · exact ⟨x.toInt8, vp_nar_byte x⟩
  · exact h j
end
section
/-! the relation, and the owed statements -/
theorem uu_m1 (n : Nat) : nI (n + 1) + (-1) = nI n := by
  rw [← nI_1, Int32.add_assoc, show (1 : Int32) + (-1) = 0 from rfl, Int32.add_zero]
/-- both objects hold the same: capacity c, fill l, cursor p, and bytes -/
def i_Rel (_ : Nat) (u : SX) (v : SY) : Prop := ∃ (c l p : Nat) (a : Nat → Int32), c ≤ 12 ∧ l ≤ c ∧ p ≤ l ∧ (∀ j, uu_B (a j)) ∧ u = (nI c, nI l, nI p, a) ∧ v = (nI c, nI l, nI p, a)
theorem i_up {k : Nat} {u : SX} {v : SY} (h : i_Rel k u v) : i_Rel (k + 2) u v := h
theorem uu_R0 (k c : Nat) (hc : c ≤ 12) : i_Rel k (nI c, 0, 0, fun _ => 0) (nI c, 0, 0, fun _ => 0) :=
  ⟨c, 0, 0, fun _ => 0, hc, Nat.zero_le _, Nat.le_refl _, fun _ => uu_0, rfl, rfl⟩
theorem i_vc0 (k0 : Int32) : wpX_init (fun u => wpY_init (fun v => i_Rel 1 u v) k0) k0 := by
  by_cases h1 : 1 ≤ k0
  · by_cases h2 : k0 ≤ 12
    · have h0 : ¬ k0 < 0 := Int32.not_lt.mpr (Int32.le_trans (by decide) h1)
      obtain ⟨c, hc, rfl⟩ := nI_of2 (M := 12) (n := 12) (by decide) h0 h2
      exact br_t h1 (br_t h2 (br_t h1 (br_t h2 (uu_R0 1 c hc))))
    · exact br_t h1 (br_f h2 (br_t h1 (br_f h2 (uu_R0 1 12 (Nat.le_refl _)))))
  · have h2 : (1 : Int32) ≤ 12 := by decide
    exact br_f h1 (br_t h2 (br_f h1 (uu_R0 1 1 (by decide))))
theorem i_vc_put {k : Nat} {u : SX} {v : SY} (I : i_Rel k u v) (hk : k + 2 ≤ 1025) (v1 : Int32) : wpX_put (fun r u' => wpY_put (fun r' v' => r' = r ∧ i_Rel (k + 2) u' v') v v1) u v1 := by
  obtain ⟨c, l, p, a, hc, hl, hp, hb, rfl, rfl⟩ := I
  by_cases e : l = c
  · subst e
    exact br_t rfl (br_f (nI_nlt (Nat.le_refl _) (by omega)) ⟨rfl, l, l, p, a, hc, hl, hp, hb, rfl, rfl⟩)
  · have hne : ¬ nI l = nI c := by rw [nI_eq (by omega) (by omega)]; exact e
    have hlt : nI l < nI c := nI_lt (by omega) (by omega)
    have hin : vp_in (nI l) 12 := vp_in_nI (by omega) (by omega)
    refine br_f hne ⟨hin, ?_⟩
    intro a3 e3 l4 e4
    refine br_t hlt ?_
    intro l5 e5
    refine ⟨hin, ?_⟩
    intro a6 e6
    have ha : a6 = a3 := by rw [e6, e3, uu_nar]
    have h4 : l4 = nI (l + 1) := by rw [e4, nI_1]
    have h5 : l5 = nI (l + 1) := by rw [e5, nI_1]
    have hB : ∀ j, uu_B (a3 j) := by rw [e3]; exact uu_upd hb _ _
    subst ha h4 h5
    exact ⟨rfl, c, l + 1, p, a6, hc, by omega, by omega, hB, rfl, rfl⟩
/-- the reference's nested ifs, as a count -/
def uu_Y (a : Nat → Int32) (R : Int32 → Prop) : Nat → Int32 → Prop
  | 0 => fun x => R x
  | n + 1 => fun x => ((x ≤ 0 → R x) ∧ (¬ x ≤ 0 → (vp_in x 12 ∧ ((((-64) ≤ (a x.toNatClampNeg) → R x) ∧ (¬ (-64) ≤ (a x.toNatClampNeg) → (∀ y : Int32, y = x + (-1) → uu_Y a R n y)))))))
/-- d passes left: one outcome for the component's loop and the reference's ifs -/
theorem uu_back {c l : Nat} {a : Nat → Int32} (hb : ∀ j, uu_B (a j)) : ∀ d i p : Nat, i + d = 3 → p < 12 → ∃ q : Nat, q ≤ p ∧ (∀ post : Int32 → SX → Prop, post (nI q) (nI c, nI l, nI q, a) → wX_prev_21 post (nI c) (nI l) a (d + 1) (nI i) (nI p)) ∧ (∀ R : Int32 → Prop, R (nI q) → uu_Y a R d (nI p)) := by
  intro d
  induction d with
  | zero =>
    intro i p hi hp
    have h : (3 : Int32) ≤ nI i := nI_le (a := 3) (by omega) (by omega)
    exact ⟨p, Nat.le_refl _, fun post hq => br_t h hq, fun R hR => hR⟩
  | succ d ih =>
    intro i p hi hp
    have h : ¬ (3 : Int32) ≤ nI i := nI_ge (b := 3) (by omega) (by omega)
    cases p with
    | zero =>
      have h0 : nI 0 ≤ 0 := by decide
      exact ⟨0, Nat.le_refl _, fun post hq => br_f h (br_t h0 hq), fun R hR => br_t h0 hR⟩
    | succ p =>
      have h0 : ¬ nI (p + 1) ≤ 0 := nI_nle (by omega) (by omega)
      have hin : vp_in (nI (p + 1)) 12 := vp_in_nI (by omega) (by omega)
      have hc := uu_cont (hb (nI (p + 1)).toNatClampNeg)
      by_cases z : (a (nI (p + 1)).toNatClampNeg &&& 192) = 128
      · obtain ⟨q, hq, hX, hY⟩ := ih (i + 1) p (by omega) (by omega)
        refine ⟨q, by omega, fun post hP => br_f h (br_f h0 ⟨hin, br_t z ?_⟩), fun R hR => br_f h0 ⟨hin, br_f (hc.mp z) ?_⟩⟩
        · intro y ey w ew
          rw [ey, ew, nI_pred, nI_1]
          exact hX post hP
        · intro y ey
          rw [ey, uu_m1]
          exact hY R hR
      · have z' : (-64) ≤ a (nI (p + 1)).toNatClampNeg := Decidable.byContradiction fun t => z (hc.mpr t)
        exact ⟨p + 1, Nat.le_refl _, fun post hP => br_f h (br_f h0 ⟨hin, br_f z hP⟩), fun R hR => br_f h0 ⟨hin, br_t z' hR⟩⟩
theorem uu_prev {c l p : Nat} {a : Nat → Int32} (hp : p ≤ 12) (hb : ∀ j, uu_B (a j)) : ∃ q : Nat, q ≤ p ∧ (∀ post : Int32 → SX → Prop, post (nI q) (nI c, nI l, nI q, a) → wpX_prev post (nI c, nI l, nI p, a)) ∧ (∀ post : Int32 → SY → Prop, post (nI q) (nI c, nI l, nI q, a) → wpY_prev post (nI c, nI l, nI p, a)) := by
  cases p with
  | zero => exact ⟨0, Nat.le_refl _, fun post h => br_t nI_0 h, fun post h => br_t nI_0 h⟩
  | succ p =>
    have h0 : ¬ nI (p + 1) = 0 := nI_ne0 (by omega) (by omega)
    obtain ⟨q, hq, hX, hY⟩ := uu_back (c := c) (l := l) hb 3 0 p rfl (by omega)
    refine ⟨q, by omega, fun post h => br_f h0 ?_, fun post h => br_f h0 ?_⟩
    · intro y ey
      rw [ey, nI_pred]
      exact ⟨4, hX post h⟩
    · intro y ey
      rw [ey, uu_m1]
      exact hY (fun x => post x (nI c, nI l, x, a)) h
theorem i_vc_prev {k : Nat} {u : SX} {v : SY} (I : i_Rel k u v) (hk : k + 2 ≤ 1025) : wpX_prev (fun r u' => wpY_prev (fun r' v' => r' = r ∧ i_Rel (k + 2) u' v') v) u := by
  obtain ⟨c, l, p, a, hc, hl, hp, hb, rfl, rfl⟩ := I
  obtain ⟨q, hq, hX, hY⟩ := uu_prev (c := c) (l := l) (p := p) (by omega) hb
  exact hX _ (hY _ ⟨rfl, c, l, q, a, hc, hl, by omega, hb, rfl, rfl⟩)
theorem uu_x77 {post : Int32 → SX → Prop} {c l p s : Nat} {a : Nat → Int32} (hl : l ≤ 12) (hp : p ≤ l) (hs : s ≤ 4) (h : post (nI (if p + s ≤ l then p + s else l)) (nI c, nI l, nI (if p + s ≤ l then p + s else l), a)) : wX_next_77 post (nI s) (nI c) (nI l) (nI p) a := by
  unfold wX_next_77
  intro y ey
  rw [ey, nI_add]
  by_cases e : p + s ≤ l
  · rw [if_pos e] at h
    exact br_t (nI_le e (by omega)) h
  · rw [if_neg e] at h
    exact br_f (nI_ge (by omega) (by omega)) h
theorem uu_y108 {post : Int32 → SY → Prop} {c l p s : Nat} {a : Nat → Int32} (hl : l ≤ 12) (hp : p ≤ l) (hs : s ≤ 4) (h : post (nI (if p + s ≤ l then p + s else l)) (nI c, nI l, nI (if p + s ≤ l then p + s else l), a)) : wY_next_108 post (nI s) (nI c) (nI l) (nI p) a := by
  unfold wY_next_108
  intro y ey
  rw [ey, nI_add]
  by_cases e : p + s ≤ l
  · rw [if_pos e] at h
    exact br_t (nI_le e (by omega)) h
  · rw [if_neg e] at h
    exact br_f (nI_ge (by omega) (by omega)) h
theorem uu_next {c l p : Nat} {a : Nat → Int32} (hl : l ≤ 12) (hp : p ≤ l) (hb : ∀ j, uu_B (a j)) : ∃ q : Nat, q ≤ l ∧ (∀ post : Int32 → SX → Prop, post (nI q) (nI c, nI l, nI q, a) → wpX_next post (nI c, nI l, nI p, a)) ∧ (∀ post : Int32 → SY → Prop, post (nI q) (nI c, nI l, nI q, a) → wpY_next post (nI c, nI l, nI p, a)) := by
  by_cases e : p = l
  · subst e
    exact ⟨p, Nat.le_refl _, fun post h => br_t rfl h, fun post h => br_f (nI_nlt (Nat.le_refl _) (by omega)) h⟩
  · have hne : ¬ nI p = nI l := by rw [nI_eq (by omega) (by omega)]; exact e
    have hlt : nI p < nI l := nI_lt (by omega) (by omega)
    have hin : vp_in (nI p) 12 := vp_in_nI (by omega) (by omega)
    have h4 := uu_st4 (a (nI p).toNatClampNeg)
    have hy := uu_step (hb (nI p).toNatClampNeg)
    refine ⟨if p + uu_st (a (nI p).toNatClampNeg) ≤ l then p + uu_st (a (nI p).toNatClampNeg) else l, by split <;> omega, fun post h => br_f hne ⟨hin, ?_⟩, fun post h => br_t hlt ⟨hin, ?_⟩⟩
    · exact uu_tx (fun s => wX_next_77 post s (nI c) (nI l) (nI p) a) (uu_x77 hl hp h4 h)
    · refine uu_ty (fun s => wY_next_108 post s (nI c) (nI l) (nI p) a) hin ?_
      rw [hy]
      exact uu_y108 hl hp h4 h
theorem i_vc_next {k : Nat} {u : SX} {v : SY} (I : i_Rel k u v) (hk : k + 2 ≤ 1025) : wpX_next (fun r u' => wpY_next (fun r' v' => r' = r ∧ i_Rel (k + 2) u' v') v) u := by
  obtain ⟨c, l, p, a, hc, hl, hp, hb, rfl, rfl⟩ := I
  obtain ⟨q, hq, hX, hY⟩ := uu_next (c := c) (l := l) (p := p) (by omega) hp hb
  exact hX _ (hY _ ⟨rfl, c, l, q, a, hc, hl, hq, hb, rfl, rfl⟩)
theorem i_vc_cursor {k : Nat} {u : SX} {v : SY} (I : i_Rel k u v) (hk : k + 2 ≤ 1025) : wpX_cursor (fun r => wpY_cursor (fun r' => r' = r ∧ i_Rel (k + 2) u v) v) u := by
  obtain ⟨c, l, p, a, hc, hl, hp, hb, rfl, rfl⟩ := I
  exact ⟨rfl, c, l, p, a, hc, hl, hp, hb, rfl, rfl⟩
end
