section
/-- the median of three as both sides reckon it -/
def rm_m1 (a b : Int32) : Int32 := if a ≤ b then b else a
def rm_m2 (a b c : Int32) : Int32 := if b ≤ c then rm_m1 a b else rm_m1 a c
def rm_mid (a b c : Int32) : Int32 := if a ≤ b then rm_m2 a b c else rm_m2 b a c
/-- the median of row l -/
def rm_at (a : Nat → Int32) (l : Int32) : Int32 := rm_mid (a (l * 3).toNatClampNeg) (a (l * 3 + 1).toNatClampNeg) (a (l * 3 + 2).toNatClampNeg)
/-- the fills with row l emptied; with one more in row l; the rows with m stored behind the last of row l -/
def rm_f0 (f : Nat → Int32) (l : Int32) : Nat → Int32 := upd f l.toNatClampNeg (vp_nar .byte 0)
def rm_f1 (f : Nat → Int32) (l : Int32) : Nat → Int32 := upd f l.toNatClampNeg (vp_nar .byte ((f l.toNatClampNeg + 1).toInt8.toInt32))
def rm_a (a f : Nat → Int32) (l m : Int32) : Nat → Int32 := upd a (l * 3 + f l.toNatClampNeg).toNatClampNeg m
/-- a fill at rest; a fill that was just raised -/
def rm_ok (x : Int32) : Prop := x = 0 ∨ x = 1 ∨ x = 2
def rm_up (x : Int32) : Prop := x = 1 ∨ x = 2 ∨ x = 3
def rm_G (f : Nat → Int32) : Prop := rm_ok (f 0) ∧ rm_ok (f 1) ∧ rm_ok (f 2)
theorem rm_0 : vp_nar .byte 0 = 0 := by rw [vp_nar_byte]; decide
theorem rm_inc {x : Int32} (h : rm_ok x) : rm_up (vp_nar .byte ((x + 1).toInt8.toInt32)) := by
  rw [vp_nar_byte]
  rcases h with rfl | rfl | rfl
  · exact Or.inl (by decide)
  · exact Or.inr (Or.inl (by decide))
  · exact Or.inr (Or.inr (by decide))
theorem rm_us (f : Nat → Int32) (k : Nat) (x : Int32) : upd f k x k = x := if_pos rfl
theorem rm_un (f : Nat → Int32) {j k : Nat} (x : Int32) (h : ¬ j = k) : upd f k x j = f j := if_neg h
theorem rm_c0 : (0 : Int32).toNatClampNeg = 0 := by decide
theorem rm_c1 : (1 : Int32).toNatClampNeg = 1 := by decide
theorem rm_c2 : (2 : Int32).toNatClampNeg = 2 := by decide
section
variable {post : Int32 → SX → Prop} {n : Nat} {l t : Int32} {a f : Nat → Int32}
theorem rm_x101 {J : Int32 → (Nat → Int32) → (Nat → Int32) → Prop} {p q : Int32} (h : wX_push_112 post J l (rm_m1 p q) a f) : wX_push_101 post J l p q a f := by
  unfold rm_m1 at h
  by_cases c : p ≤ q
  · rw [if_pos c] at h; exact br_t c h
  · rw [if_neg c] at h; exact br_f c h
theorem rm_x90 {J : Int32 → (Nat → Int32) → (Nat → Int32) → Prop} {p q r : Int32} (h : wX_push_112 post J l (rm_m2 p q r) a f) : wX_push_90 post J l p q r a f := by
  unfold rm_m2 at h
  by_cases c : q ≤ r
  · rw [if_pos c] at h; exact br_t c (rm_x101 h)
  · rw [if_neg c] at h; exact br_f c (rm_x101 h)
theorem rm_xmid {J : Int32 → (Nat → Int32) → (Nat → Int32) → Prop} {p q r : Int32} (h : wX_push_112 post J l (rm_mid p q r) a f) : (p ≤ q → wX_push_90 post J l p q r a f) ∧ (¬ p ≤ q → wX_push_90 post J l q p r a f) := by
  unfold rm_mid at h
  by_cases c : p ≤ q
  · rw [if_pos c] at h; exact br_t c (rm_x90 h)
  · rw [if_neg c] at h; exact br_f c (rm_x90 h)
/-- one turn of X's cascade from a full row l to row t -/
theorem rm_stepX (hl : vp_in l 3) (h3 : f l.toNatClampNeg = 3) (i0 : vp_in (l * 3) 9) (i1 : vp_in (l * 3 + 1) 9) (i2 : vp_in (l * 3 + 2) 9)
    (ht : (2 ≤ l ∧ t = l) ∨ (¬ 2 ≤ l ∧ t = l + 1)) (hti : vp_in t 3) (hg : vp_in (t * 3 + rm_f0 f l t.toNatClampNeg) 9)
    (h : wX_push_29 post n t (rm_a a (rm_f0 f l) t (rm_at a l)) (rm_f1 (rm_f0 f l) t)) : wX_push_29 post (n + 1) l a f := by
  have k132 : wX_push_132 post (wX_push_29 post n) t (rm_at a l) a (rm_f0 f l) := by
    unfold wX_push_132
    refine And.intro hti (And.intro hg ?_)
    intro a' ea
    refine And.intro hti (And.intro hti ?_)
    intro f' ef
    rw [ea, ef]
    exact h
  have k112 : wX_push_112 post (wX_push_29 post n) l (rm_at a l) a f := by
    unfold wX_push_112
    refine And.intro hl ?_
    intro f' ef
    rw [ef]
    rcases ht with ⟨h2, e⟩ | ⟨h2, e⟩
    · rw [e] at k132
      exact br_t h2 k132
    · refine br_f h2 ?_
      intro t' et
      rw [et, ← e]
      exact k132
  rw [wX_push_29]
  refine And.intro hl (br_t h3 ?_)
  intro b eb
  rw [eb]
  refine And.intro i0 ?_
  intro p ep
  refine And.intro i1 ?_
  intro q eq
  refine And.intro i2 ?_
  intro r er
  rw [ep, eq, er]
  exact rm_xmid k112
theorem rm_stopX (hl : vp_in l 3) (h3 : ¬ f l.toNatClampNeg = 3) (h : post l (a, f)) : wX_push_29 post (n + 1) l a f := by
  rw [wX_push_29]
  exact And.intro hl (br_f h3 h)
end
section
theorem rm_ymid {post : Int32 → Prop} {p q r : Int32} (h : post (rm_mid p q r)) : wpY_mid post p q r := by
  have k18 : ∀ p q : Int32, post (rm_m1 p q) → wY_mid_18 post p q := by
    intro p q h
    unfold rm_m1 at h
    by_cases c : p ≤ q
    · rw [if_pos c] at h; exact br_t c h
    · rw [if_neg c] at h; exact br_f c h
  have k11 : ∀ p q : Int32, post (rm_m2 p q r) → wY_mid_11 post p q r := by
    intro p q h
    unfold rm_m2 at h
    by_cases c : q ≤ r
    · rw [if_pos c] at h; exact br_t c (k18 _ _ h)
    · rw [if_neg c] at h; exact br_f c (k18 _ _ h)
  unfold rm_mid at h
  by_cases c : p ≤ q
  · rw [if_pos c] at h; exact br_t c (k11 _ _ h)
  · rw [if_neg c] at h; exact br_f c (k11 _ _ h)
variable {post : Int32 → SY → Prop} {n : Nat} {l t : Int32} {a f : Nat → Int32}
/-- one turn of Y's cascade from a full row l to row t -/
theorem rm_stepY (hl : vp_in l 3) (h3 : f l.toNatClampNeg = 3) (i0 : vp_in (l * 3) 9) (i1 : vp_in (l * 3 + 1) 9) (i2 : vp_in (l * 3 + 2) 9)
    (ht : (2 ≤ l ∧ t = l) ∨ (¬ 2 ≤ l ∧ t = l + 1)) (hti : vp_in t 3) (hg : vp_in (t * 3 + rm_f0 f l t.toNatClampNeg) 9)
    (h : wY_push_20 post n t (rm_a a (rm_f0 f l) t (rm_at a l)) (rm_f1 (rm_f0 f l) t)) : wY_push_20 post (n + 1) l a f := by
  have k78 : wY_push_78 post (wY_push_20 post n) t (rm_at a l) a (rm_f0 f l) := by
    unfold wY_push_78
    refine And.intro hti (And.intro hti ?_)
    intro f' ef
    refine And.intro hg ?_
    intro a' ea
    rw [ea, ef]
    exact h
  rw [wY_push_20]
  refine And.intro hl (br_t h3 (And.intro i0 (And.intro i1 (And.intro i2 (rm_ymid ?_)))))
  refine And.intro hl ?_
  intro f' ef
  rw [ef]
  rcases ht with ⟨h2, e⟩ | ⟨h2, e⟩
  · rw [e] at k78
    exact br_t h2 k78
  · refine br_f h2 ?_
    intro t' et
    rw [et, ← e]
    exact k78
theorem rm_stopY (hl : vp_in l 3) (h3 : ¬ f l.toNatClampNeg = 3) (h : post l (a, f)) : wY_push_20 post (n + 1) l a f := by
  rw [wY_push_20]
  exact And.intro hl (br_f h3 h)
end
/-- both cascades, entered at level l over the same rows and fills, end with one answer in one state, every fill at rest -/
def rm_Out (l : Int32) (a f : Nat → Int32) : Prop := ∃ (n : Nat) (r : Int32) (a' f' : Nat → Int32), rm_G f' ∧
  (∀ post : Int32 → SX → Prop, post r (a', f') → wX_push_29 post n l a f) ∧ (∀ post : Int32 → SY → Prop, post r (a', f') → wY_push_20 post n l a f)
theorem rm_stop {l : Int32} {a f : Nat → Int32} (hl : vp_in l 3) (h3 : ¬ f l.toNatClampNeg = 3) (g : rm_G f) : rm_Out l a f :=
  ⟨1, l, a, f, g, fun _ h => rm_stopX hl h3 h, fun _ h => rm_stopY hl h3 h⟩
theorem rm_step {l t : Int32} {a f : Nat → Int32} (hl : vp_in l 3) (h3 : f l.toNatClampNeg = 3) (i0 : vp_in (l * 3) 9) (i1 : vp_in (l * 3 + 1) 9) (i2 : vp_in (l * 3 + 2) 9)
    (ht : (2 ≤ l ∧ t = l) ∨ (¬ 2 ≤ l ∧ t = l + 1)) (hti : vp_in t 3) (hg : vp_in (t * 3 + rm_f0 f l t.toNatClampNeg) 9)
    (h : rm_Out t (rm_a a (rm_f0 f l) t (rm_at a l)) (rm_f1 (rm_f0 f l) t)) : rm_Out l a f := by
  obtain ⟨n, r, a', f', g, hX, hY⟩ := h
  exact ⟨n + 1, r, a', f', g, fun post hp => rm_stepX hl h3 i0 i1 i2 ht hti hg (hX post hp), fun post hp => rm_stepY hl h3 i0 i1 i2 ht hti hg (hY post hp)⟩
theorem rm_in1 {x : Int32} (h : rm_ok x) : vp_in (1 * 3 + x) 9 := by
  rcases h with rfl | rfl | rfl <;> exact vp_in_iff.mpr (by decide)
theorem rm_in2 {x : Int32} (h : rm_ok x) : vp_in (2 * 3 + x) 9 := by
  rcases h with rfl | rfl | rfl <;> exact vp_in_iff.mpr (by decide)
theorem rm_in0 {x : Int32} (h : rm_ok x) : vp_in x 9 := by
  rcases h with rfl | rfl | rfl <;> exact vp_in_iff.mpr (by decide)
theorem rm_n3 {x : Int32} (h : x = 1 ∨ x = 2) : ¬ x = 3 := by
  rcases h with rfl | rfl <;> decide
theorem rm_two (a f : Nat → Int32) (h0 : rm_ok (f 0)) (h1 : rm_ok (f 1)) (h2 : rm_up (f 2)) : rm_Out 2 a f := by
  have hl : vp_in 2 3 := vp_in_iff.mpr (by decide)
  have easy : ∀ (a f : Nat → Int32), rm_ok (f 0) → rm_ok (f 1) → (f 2 = 1 ∨ f 2 = 2) → rm_Out 2 a f := fun a f h0 h1 h2 =>
    rm_stop hl (by rw [rm_c2]; exact rm_n3 h2) ⟨h0, h1, Or.inr h2⟩
  rcases h2 with h2 | h2 | h2
  · exact easy a f h0 h1 (Or.inl h2)
  · exact easy a f h0 h1 (Or.inr h2)
  · have e0 : rm_f0 f 2 2 = 0 := by unfold rm_f0; rw [rm_c2, rm_us, rm_0]
    refine rm_step (t := 2) hl (by rw [rm_c2]; exact h2) (vp_in_iff.mpr (by decide)) (vp_in_iff.mpr (by decide)) (vp_in_iff.mpr (by decide)) (Or.inl ⟨by decide, rfl⟩) hl ?_ ?_
    · rw [rm_c2, e0]; exact rm_in2 (Or.inl rfl)
    · refine easy _ _ ?_ ?_ (Or.inl ?_)
      · unfold rm_f1 rm_f0; rw [rm_c2, rm_un _ _ (by decide), rm_un _ _ (by decide)]; exact h0
      · unfold rm_f1 rm_f0; rw [rm_c2, rm_un _ _ (by decide), rm_un _ _ (by decide)]; exact h1
      · unfold rm_f1; rw [rm_c2, rm_us, e0, vp_nar_byte]; decide
theorem rm_one (a f : Nat → Int32) (h0 : rm_ok (f 0)) (h1 : rm_up (f 1)) (h2 : rm_ok (f 2)) : rm_Out 1 a f := by
  have hl : vp_in 1 3 := vp_in_iff.mpr (by decide)
  have easy : (f 1 = 1 ∨ f 1 = 2) → rm_Out 1 a f := fun h1 => rm_stop hl (by rw [rm_c1]; exact rm_n3 h1) ⟨h0, Or.inr h1, h2⟩
  rcases h1 with h1 | h1 | h1
  · exact easy (Or.inl h1)
  · exact easy (Or.inr h1)
  · have e0 : rm_f0 f 1 2 = f 2 := by unfold rm_f0; rw [rm_c1, rm_un _ _ (by decide)]
    refine rm_step (t := 2) hl (by rw [rm_c1]; exact h1) (vp_in_iff.mpr (by decide)) (vp_in_iff.mpr (by decide)) (vp_in_iff.mpr (by decide)) (Or.inr ⟨by decide, by decide⟩) (vp_in_iff.mpr (by decide)) ?_ ?_
    · rw [rm_c2, e0]; exact rm_in2 h2
    · refine rm_two _ _ ?_ ?_ ?_
      · unfold rm_f1 rm_f0; rw [rm_c2, rm_c1, rm_un _ _ (by decide), rm_un _ _ (by decide)]; exact h0
      · unfold rm_f1 rm_f0; rw [rm_c2, rm_c1, rm_un _ _ (by decide), rm_us, rm_0]; exact Or.inl rfl
      · unfold rm_f1; rw [rm_c2, rm_us, e0]; exact rm_inc h2
theorem rm_zero (a f : Nat → Int32) (h0 : rm_up (f 0)) (h1 : rm_ok (f 1)) (h2 : rm_ok (f 2)) : rm_Out 0 a f := by
  have hl : vp_in 0 3 := vp_in_iff.mpr (by decide)
  have easy : (f 0 = 1 ∨ f 0 = 2) → rm_Out 0 a f := fun h0 => rm_stop hl (by rw [rm_c0]; exact rm_n3 h0) ⟨Or.inr h0, h1, h2⟩
  rcases h0 with h0 | h0 | h0
  · exact easy (Or.inl h0)
  · exact easy (Or.inr h0)
  · have e0 : rm_f0 f 0 1 = f 1 := by unfold rm_f0; rw [rm_c0, rm_un _ _ (by decide)]
    refine rm_step (t := 1) hl (by rw [rm_c0]; exact h0) (vp_in_iff.mpr (by decide)) (vp_in_iff.mpr (by decide)) (vp_in_iff.mpr (by decide)) (Or.inr ⟨by decide, by decide⟩) (vp_in_iff.mpr (by decide)) ?_ ?_
    · rw [rm_c1, e0]; exact rm_in1 h1
    · refine rm_one _ _ ?_ ?_ ?_
      · unfold rm_f1 rm_f0; rw [rm_c1, rm_c0, rm_un _ _ (by decide), rm_us, rm_0]; exact Or.inl rfl
      · unfold rm_f1; rw [rm_c1, rm_us, e0]; exact rm_inc h1
      · unfold rm_f1 rm_f0; rw [rm_c1, rm_c0, rm_un _ _ (by decide), rm_un _ _ (by decide)]; exact h2
end
section
/-- the two objects hold the same cells and the same fills, each fill 0, 1 or 2 -/
def i_Rel (_ : Nat) (u : SX) (v : SY) : Prop := u = v ∧ rm_G u.2
theorem i_up {k : Nat} {u : SX} {v : SY} (h : i_Rel k u v) : i_Rel (k + 2) u v := h
theorem i_vc0 : wpX_init (fun u => wpY_init (fun v => i_Rel 0 u v)) := ⟨rfl, Or.inl rfl, Or.inl rfl, Or.inl rfl⟩
theorem i_vc_push {k : Nat} {u : SX} {v : SY} (I : i_Rel k u v) (hk : k + 2 ≤ 1024) (v1 : Int32) : wpX_push (fun r u' => wpY_push (fun r' v' => r' = r ∧ i_Rel (k + 2) u' v') v v1) u v1 := by
  obtain ⟨e, g⟩ := I
  cases e
  obtain ⟨a, f⟩ := u
  have h0 : rm_ok (f 0) := g.1
  have o : rm_Out 0 (upd a (f 0).toNatClampNeg v1) (upd f 0 (vp_nar .byte ((f 0 + 1).toInt8.toInt32))) := by
    refine rm_zero _ _ ?_ ?_ ?_
    · rw [rm_us]; exact rm_inc h0
    · rw [rm_un _ _ (by decide)]; exact g.2.1
    · rw [rm_un _ _ (by decide)]; exact g.2.2
  obtain ⟨n, r, a', f', g', hX, hY⟩ := o
  unfold wpX_push wpY_push
  dsimp only
  refine And.intro (rm_in0 h0) ?_
  intro b eb c ec
  rw [eb, ec]
  refine ⟨n, hX _ ?_⟩
  intro c' ec'
  refine And.intro (rm_in0 h0) ?_
  intro b' eb'
  rw [eb', ec']
  exact ⟨n, hY _ ⟨rfl, rfl, g'⟩⟩
theorem rm_i1 {x : Int32} (h : rm_ok x) (hn : ¬ x ≤ 0) : vp_in (x - 1) 9 ∧ 0 * 3 + x - 1 = x - 1 := by
  rcases h with rfl | rfl | rfl
  · exact absurd (by decide) hn
  · exact ⟨vp_in_iff.mpr (by decide), by decide⟩
  · exact ⟨vp_in_iff.mpr (by decide), by decide⟩
theorem rm_i2 {x : Int32} (h : rm_ok x) : vp_in (2 + x) 9 ∧ 1 * 3 + x - 1 = 2 + x := by
  rcases h with rfl | rfl | rfl <;> exact ⟨vp_in_iff.mpr (by decide), by decide⟩
theorem rm_i3 {x : Int32} (h : rm_ok x) : vp_in (5 + x) 9 ∧ 2 * 3 + x - 1 = 5 + x := by
  rcases h with rfl | rfl | rfl <;> exact ⟨vp_in_iff.mpr (by decide), by decide⟩
theorem i_vc_top {k : Nat} {u : SX} {v : SY} (I : i_Rel k u v) (hk : k + 2 ≤ 1024) : wpX_top (fun r => wpY_top (fun r' => r' = r ∧ i_Rel (k + 2) u v) v) u := by
  obtain ⟨e, g⟩ := I
  cases e
  obtain ⟨a, f⟩ := u
  have g0 : rm_ok (f 0) := g.1
  have g1 : rm_ok (f 1) := g.2.1
  have g2 : rm_ok (f 2) := g.2.2
  have I : i_Rel (k + 2) (a, f) (a, f) := ⟨rfl, g⟩
  have n0 : ¬ (0 : Int32) < 0 := by decide
  have n1 : ¬ (1 : Int32) < 0 := by decide
  have n2 : ¬ (2 : Int32) < 0 := by decide
  have nm : (-1 : Int32) < 0 := by decide
  have v0 : vp_in 0 3 := vp_in_iff.mpr (by decide)
  have v1 : vp_in 1 3 := vp_in_iff.mpr (by decide)
  have v2 : vp_in 2 3 := vp_in_iff.mpr (by decide)
  unfold wpX_top wpY_top
  dsimp only
  refine ⟨4, ?_⟩
  rw [wX_top_2]
  dsimp only
  rw [rm_c2]
  refine br_f n2 (And.intro v2 ?_)
  by_cases z2 : f 2 ≤ 0
  · refine br_t z2 ?_
    intro y ey
    rw [ey, show (2 : Int32) + (-1) = 1 from by decide, wX_top_2]
    dsimp only
    rw [rm_c1]
    refine br_f n1 (And.intro v1 ?_)
    by_cases z1 : f 1 ≤ 0
    · refine br_t z1 ?_
      intro y ey
      rw [ey, show (1 : Int32) + (-1) = 0 from by decide, wX_top_2]
      dsimp only
      rw [rm_c0]
      refine br_f n0 (And.intro v0 ?_)
      by_cases z0 : f 0 ≤ 0
      · refine br_t z0 ?_
        intro y ey
        rw [ey, show (0 : Int32) + (-1) = -1 from by decide, wX_top_2]
        exact br_t nm (br_t z2 (br_t z1 (br_t z0 ⟨rfl, I⟩)))
      · obtain ⟨i, e⟩ := rm_i1 g0 z0
        refine br_f z0 (And.intro v0 ?_)
        rw [e]
        exact ⟨i, br_t z2 (br_t z1 (br_f z0 ⟨i, rfl, I⟩))⟩
    · obtain ⟨i, e⟩ := rm_i2 g1
      refine br_f z1 (And.intro v1 ?_)
      rw [e]
      exact ⟨i, br_t z2 (br_f z1 ⟨i, rfl, I⟩)⟩
  · obtain ⟨i, e⟩ := rm_i3 g2
    refine br_f z2 (And.intro v2 ?_)
    rw [e]
    exact ⟨i, br_f z2 ⟨i, rfl, I⟩⟩
theorem rm_in {x : Int32} (h : ¬ x < 0) (h2 : x ≤ 2) : vp_in x 3 := by
  obtain ⟨j, hj, e⟩ := nI_of2 (M := 2) (n := 2) (by decide) h h2
  rw [e]
  exact vp_in_nI (by omega) (by decide)
theorem i_vc_fill {k : Nat} {u : SX} {v : SY} (I : i_Rel k u v) (hk : k + 2 ≤ 1024) (v1 : Int32) : wpX_fill (fun r => wpY_fill (fun r' => r' = r ∧ i_Rel (k + 2) u v) v v1) u v1 := by
  obtain ⟨e, g⟩ := I
  cases e
  obtain ⟨a, f⟩ := u
  have I : i_Rel (k + 2) (a, f) (a, f) := ⟨rfl, g⟩
  unfold wpX_fill wpY_fill
  dsimp only
  by_cases h0 : v1 < 0
  · exact br_t h0 (br_t h0 ⟨rfl, I⟩)
  · by_cases h2 : v1 ≤ 2
    · have i := rm_in h0 h2
      exact br_f h0 (br_t h2 ⟨i, br_f h0 (br_t h2 ⟨i, rfl, I⟩)⟩)
    · exact br_f h0 (br_f h2 (br_f h0 (br_f h2 ⟨rfl, I⟩)))
end
