section
/-- what refresh leaves at place k of apart, both machines having one state that goes to itself -/
def mm_pic (a3 : Nat → Int32) (k : Nat) : Int32 :=
  if ¬ (a3 (2 * (k / 12)) = a3 (2 * (k % 12)) ∧ a3 (2 * (k / 12) + 1) = a3 (2 * (k % 12) + 1)) ∧ k / 12 % 6 = 0 ∧ k % 12 % 6 = 0 then 1 else 0
theorem mm_fill {f s : Nat → Int32} {i : Nat} {x : Int32} (h : ∀ j, j < i → s j = f j) (hx : x = f i) : ∀ j, j < i + 1 → upd s i x j = f j := by
  intro j hj
  by_cases e : j = i
  · rw [e, pk_us, hx]
  · rw [pk_un e]
    exact h j (by omega)
theorem mm_same_upd {a : Nat → Int32} {k : Nat} {x : Int32} (h : a k = x) : upd a k x = a := by
  funext j
  by_cases e : j = k
  · rw [e, pk_us, h]
  · rw [pk_un e]
theorem mm_there {post : Int32 → Prop} {fc fu : Int32} {a1 a2 a3 a4 a5 a6 a7 a8 : Nat → Int32} (h1 : a1 0 = 1) (h2 : a1 1 = 1) {x : Int32} (p : Nat) (hx : x = nI p) (hp : p < 12) (H0 : ¬ p % 6 = 0 → post 0) (H1 : p % 6 = 0 → post 1) : wpX_isThere post (fc, fu, a1, a2, a3, a4, a5, a6, a7, a8) x := by
  subst hx
  have e1 : nI p / 6 = nI (p / 6) := pk_div (d := 6) (by omega) (by omega) (by omega)
  have e2 : nI p - nI p / 6 * 6 = nI (p % 6) := pk_rem (d := 6) (by omega) (by omega) (by omega)
  have e3 : a1 (nI p / 6).toNatClampNeg = nI 1 := by
    rw [e1, nI_clamp (by omega)]
    rcases (show p / 6 = 0 ∨ p / 6 = 1 by omega) with h | h
    · rw [h]; exact h1
    · rw [h]; exact h2
  exact ⟨by decide, by decide, pk_in (p / 6) 2 (by omega) e1, pk_le 1 (p % 6) (fun z => H0 (by omega)) (fun z => H1 (by omega)) e3 e2⟩
theorem mm_after {post : Int32 → Prop} {fc fu : Int32} {a1 a2 a3 a4 a5 a6 a7 a8 : Nat → Int32} (h : ∀ j, j < 24 → a2 j = 0) {x y : Int32} (p l : Nat) (hx : x = nI p) (hy : y = nI l) (hp : p < 12) (hl : l < 2) (H : post (nI (6 * (p / 6)))) : wpX_after post (fc, fu, a1, a2, a3, a4, a5, a6, a7, a8) x y := by
  subst hx hy
  have e1 : nI p / 6 = nI (p / 6) := pk_div (d := 6) (by omega) (by omega) (by omega)
  have e2 : 2 * nI p + nI l = nI (2 * p + l) := by
    rw [← nI_add, ← pk_mul]; rfl
  have e3 : 6 * (nI p / 6) + a2 (2 * nI p + nI l).toNatClampNeg = nI (6 * (p / 6)) := by
    rw [e1, e2, nI_clamp (by omega), h _ (by omega), ← pk_mul]
    exact Int32.add_zero _
  refine ⟨by decide, pk_in (2 * p + l) 24 (by omega) e2, ?_⟩
  rw [e3]
  exact H
/-- from a pair of places 0 and 6 every letter goes back to the pair -/
theorem mm_goes {post : Int32 → Prop} {fc fu : Int32} {a1 a2 a3 a4 a5 a6 a7 a8 : Nat → Int32} (h : ∀ j, j < 24 → a2 j = 0) {x y z : Int32} (p q : Nat) (hx : x = nI p) (hy : y = nI q) (hp : p < 12) (hq : q < 12) (p6 : p % 6 = 0) (q6 : q % 6 = 0) (hz : ¬ a4 (12 * p + q) = z) (H : post 0) : wpX_goesTo post (fc, fu, a1, a2, a3, a4, a5, a6, a7, a8) x y z :=
  pk_loop (σ := Unit) (fun n i _ => wX_goesTo_3 post x y z fc fu a1 a2 a3 a4 a5 a6 a7 a8 n (nI i)) (fun _ _ => True) 2 0 () (by omega) trivial
    (fun n _ _ => pk_le 2 2 (fun _ => H) (fun z => absurd z (by omega)))
    (fun n i _ hi _ hw => pk_le 2 i (fun z => absurd z (by omega)) (fun _ => by
      refine mm_after h p i hx rfl hp hi ?_
      refine mm_after h q i hy rfl hq hi ?_
      have ep : 6 * (p / 6) = p := by omega
      have eq : 6 * (q / 6) = q := by omega
      rw [ep, eq]
      have e : 12 * nI p + nI q = nI (12 * p + q) := by
        rw [← nI_add, ← pk_mul]; rfl
      refine ⟨pk_in (12 * p + q) 144 (by omega) e, br_f ?_ (nm_r (nI_1 i) (hw () trivial))⟩
      rw [e, nI_clamp (by omega)]
      exact hz))
/-- one round over all pairs: apart stays as it is -/
theorem mm_129 {post : St2 → Prop} {J : Int32 → (Nat → Int32) → (Nat → Int32) → (Nat → Int32) → (Nat → Int32) → (Nat → Int32) → (Nat → Int32) → (Nat → Int32) → (Nat → Int32) → Prop} {fc fu : Int32} {a1 a2 a3 a4 a5 a6 a7 a8 : Nat → Int32} (h1 : a1 0 = 1) (h2 : a1 1 = 1) (h : ∀ j, j < 24 → a2 j = 0) (l : Nat) (hl : 2 ≤ l) (hl2 : l ≤ 11) (H : J (nI (l + 1)) a1 a2 a3 a4 a5 a6 a7 a8) : ∃ n, wX_refresh_129 post J (nI l) fc fu n 0 a1 a2 a3 a4 a5 a6 a7 a8 :=
  pk_loop (σ := Unit) (fun n i _ => wX_refresh_129 post J (nI l) fc fu n (nI i) a1 a2 a3 a4 a5 a6 a7 a8) (fun _ _ => True) 144 0 () (by omega) trivial
    (fun n _ _ => pk_le 144 144 (fun _ => nm_r (nI_1 l) H) (fun z => absurd z (by omega)))
    (fun n i _ hi _ hw => pk_le 144 i (fun z => absurd z (by omega)) (fun _ => by
      have w := hw () trivial
      have ec : (nI i).toNatClampNeg = i := nI_clamp (by omega)
      have e1 : nI i / 12 = nI (i / 12) := pk_div (d := 12) (by omega) (by omega) (by omega)
      have e2 : nI i - nI i / 12 * 12 = nI (i % 12) := pk_rem (d := 12) (by omega) (by omega) (by omega)
      have el : nI l - 1 = nI (l - 1) := pk_sub (b := 1) (by omega)
      refine ⟨pk_in i 144 hi, br_c (fun g => ⟨by decide, ?_⟩) (fun _ => nm_r (nI_1 i) w)⟩
      rw [ec] at g
      refine mm_there h1 h2 (i / 12) e1 (by omega) (fun _ => br_t rfl (nm_r (nI_1 i) w)) (fun z1 => br_f (by decide) ⟨by decide, ?_⟩)
      refine mm_there h1 h2 (i % 12) e2 (by omega) (fun _ => br_t rfl (nm_r (nI_1 i) w)) (fun z2 => br_f (by decide) ⟨by decide, by decide, ?_⟩)
      refine mm_goes h (i / 12) (i % 12) e1 e2 (by omega) (by omega) z1 z2 ?_ (br_t rfl ⟨pk_in i 144 hi, nm_r (e' := a4) ?_ (nm_r (nI_1 i) w)⟩)
      · rw [show 12 * (i / 12) + i % 12 = i by omega, g, el]
        exact fun z => nI_ne0 (n := l - 1) (by omega) (by omega) z.symm
      · rw [ec]
        exact mm_same_upd g))
theorem mm_121 {post : St2 → Prop} {fc fu : Int32} {a1 a2 a3 a4 a5 a6 a7 a8 : Nat → Int32} (h1 : a1 0 = 1) (h2 : a1 1 = 1) (h : ∀ j, j < 24 → a2 j = 0) (H : post (fc, fu, a1, a2, a3, a4, a5, a6, a7, a8)) : ∃ n, wX_refresh_121 post fc fu n 2 a1 a2 a3 a4 a5 a6 a7 a8 :=
  pk_loop (σ := Unit) (fun n i _ => wX_refresh_121 post fc fu n (nI i) a1 a2 a3 a4 a5 a6 a7 a8) (fun i _ => 2 ≤ i) 12 2 () (by omega) (by omega)
    (fun n _ _ => pk_lt 11 12 (fun _ => H) (fun z => absurd z (by omega)))
    (fun n i _ hi h0 hw => pk_lt 11 i (fun z => absurd z (by omega)) (fun _ => mm_129 h1 h2 h i h0 (by omega) (hw () (by omega))))
/-- the first pass stores v at place k -/
theorem mm_79 {post : St2 → Prop} {J : Int32 → (Nat → Int32) → (Nat → Int32) → (Nat → Int32) → (Nat → Int32) → (Nat → Int32) → (Nat → Int32) → (Nat → Int32) → (Nat → Int32) → Prop} {fc fu : Int32} {a1 a2 a3 a4 a5 a6 a7 a8 : Nat → Int32} (h1 : a1 0 = 1) (h2 : a1 1 = 1) {x2 x3 z : Int32} (k p q : Nat) (hk : k < 144) (hx : x2 = nI p) (hy : x3 = nI q) (hp : p < 12) (hq : q < 12) (H : J (nI (k + 1)) a1 a2 a3 (upd a4 k (if ¬ z = 0 ∧ p % 6 = 0 ∧ q % 6 = 0 then 1 else 0)) a5 a6 a7 a8) : wX_refresh_79 post J (nI k) x2 x3 z fc fu a1 a2 a3 a4 a5 a6 a7 a8 := by
  have ec : (nI k).toNatClampNeg = k := nI_clamp (by omega)
  refine br_c (fun g => ⟨pk_in k 144 hk, nm_r (by rw [ec]) (nm_r (nI_1 k) ?_)⟩) (fun g => ?_)
  · rw [if_neg (fun t => t.1 g)] at H
    exact H
  · refine mm_there h1 h2 p hx hp (fun z1 => br_t rfl ⟨pk_in k 144 hk, nm_r (by rw [ec]) (nm_r (nI_1 k) ?_)⟩) (fun z1 => br_f (by decide) ?_)
    · rw [if_neg (fun t => z1 t.2.1)] at H
      exact H
    · refine mm_there h1 h2 q hy hq (fun z2 => br_t rfl ⟨pk_in k 144 hk, nm_r (by rw [ec]) (nm_r (nI_1 k) ?_)⟩) (fun z2 => br_f (by decide) ⟨pk_in k 144 hk, nm_r (by rw [ec]) (nm_r (nI_1 k) ?_)⟩)
      · rw [if_neg (fun t => z2 t.2.2)] at H
        exact H
      · rw [if_pos ⟨g, z1, z2⟩] at H
        exact H
theorem mm_15 {post : St2 → Prop} {fc fu : Int32} {a1 a2 a3 a4 a5 a6 a7 a8 : Nat → Int32} (h1 : a1 0 = 1) (h2 : a1 1 = 1) (h : ∀ j, j < 24 → a2 j = 0) (H : ∀ b, (∀ k, k < 144 → b k = mm_pic a3 k) → post (fc, fu, a1, a2, a3, b, a5, a6, a7, a8)) : ∃ n, wX_refresh_15 post fc fu n 0 a1 a2 a3 a4 a5 a6 a7 a8 :=
  pk_loop (fun n i s => wX_refresh_15 post fc fu n (nI i) a1 a2 a3 s a5 a6 a7 a8) (fun i s => ∀ j, j < i → s j = mm_pic a3 j) 144 0 a4 (by omega) (fun j hj => absurd hj (by omega))
    (fun n s hs => pk_le 144 144 (fun _ => mm_121 h1 h2 h (H s hs)) (fun z => absurd z (by omega)))
    (fun n i s hi hs hw => pk_le 144 i (fun z => absurd z (by omega)) (fun _ => by
      have e1 : nI i / 12 = nI (i / 12) := pk_div (d := 12) (by omega) (by omega) (by omega)
      have e2 : nI i - nI i / 12 * 12 = nI (i % 12) := pk_rem (d := 12) (by omega) (by omega) (by omega)
      have p0 : 2 * nI (i / 12) = nI (2 * (i / 12)) := by rw [← pk_mul]; rfl
      have q0 : 2 * nI (i % 12) = nI (2 * (i % 12)) := by rw [← pk_mul]; rfl
      have p1 : 2 * nI (i / 12) + 1 = nI (2 * (i / 12) + 1) := by rw [p0, nI_1]
      have q1 : 2 * nI (i % 12) + 1 = nI (2 * (i % 12) + 1) := by rw [q0, nI_1]
      have fin : ∀ z : Int32, (z = 0 ↔ (a3 (2 * (i / 12)) = a3 (2 * (i % 12)) ∧ a3 (2 * (i / 12) + 1) = a3 (2 * (i % 12) + 1))) → wX_refresh_79 post (wX_refresh_15 post fc fu n) (nI i) (nI (i / 12)) (nI (i % 12)) z fc fu a1 a2 a3 s a5 a6 a7 a8 := by
        intro z hz
        refine mm_79 h1 h2 i (i / 12) (i % 12) hi rfl rfl (by omega) (by omega) (hw _ (mm_fill hs ?_))
        unfold mm_pic
        simp only [hz]
      refine ⟨by decide, nm_r e1 ⟨by decide, nm_r e2 ⟨pk_in _ 24 (by omega) p0, pk_in _ 24 (by omega) q0, br_c (fun g => ⟨pk_in _ 24 (by omega) p1, pk_in _ 24 (by omega) q1, br_c (fun g2 => fin 0 ?_) (fun g2 => fin 1 ?_)⟩) (fun g => fin 1 ?_)⟩⟩⟩
      · rw [p0, q0, nI_clamp (by omega), nI_clamp (by omega)] at g
        rw [p1, q1, nI_clamp (by omega), nI_clamp (by omega)] at g2
        exact ⟨fun _ => ⟨g, g2⟩, fun _ => rfl⟩
      · rw [p1, q1, nI_clamp (by omega), nI_clamp (by omega)] at g2
        exact ⟨fun t => absurd t (by decide), fun t => absurd t.2 g2⟩
      · rw [p0, q0, nI_clamp (by omega), nI_clamp (by omega)] at g
        exact ⟨fun t => absurd t (by decide), fun t => absurd t.1 g⟩))
theorem mm_refresh {post : St2 → Prop} {fc : Int32} {a1 a2 a3 a4 a5 a6 a7 a8 : Nat → Int32} (h1 : a1 0 = 1) (h2 : a1 1 = 1) (h : ∀ j, j < 24 → a2 j = 0) (H : ∀ b, (∀ k, k < 144 → b k = mm_pic a3 k) → post (fc, 1, a1, a2, a3, b, a5, a6, a7, a8)) : wpX_refresh post (fc, 0, a1, a2, a3, a4, a5, a6, a7, a8) :=
  br_t rfl (mm_15 h1 h2 h H)
end
section
/-- the picture: two machines of one state each, their answers p q and r s -/
def mm_K (a1 a2 a3 : Nat → Int32) (p q r s : Int32) : Prop := a1 0 = 1 ∧ a1 1 = 1 ∧ (∀ j, j < 24 → a2 j = 0) ∧ a3 0 = p ∧ a3 1 = q ∧ a3 12 = r ∧ a3 13 = s
theorem mm_pic6 (a3 : Nat → Int32) : mm_pic a3 6 = if a3 0 = a3 12 ∧ a3 1 = a3 13 then 0 else 1 := by
  unfold mm_pic
  by_cases g : a3 0 = a3 12 ∧ a3 1 = a3 13
  · rw [if_pos g, if_neg (fun t => t.1 g)]
  · rw [if_neg g, if_pos ⟨g, by decide, by decide⟩]
theorem mm_pic72 (a3 : Nat → Int32) : mm_pic a3 72 = if a3 0 = a3 12 ∧ a3 1 = a3 13 then 0 else 1 := by
  unfold mm_pic
  by_cases g : a3 0 = a3 12 ∧ a3 1 = a3 13
  · rw [if_pos g, if_neg (fun t => t.1 ⟨g.1.symm, g.2.symm⟩)]
  · rw [if_neg g, if_pos ⟨fun t => g ⟨t.1.symm, t.2.symm⟩, by decide, by decide⟩]
theorem mm_place8 {post : Int32 → Prop} {fc fu : Int32} {a1 a2 a3 a4 a5 a6 a7 a8 : Nat → Int32} (h : a1 1 = 1) (H : post 6) : wpX_placeOf post (fc, fu, a1, a2, a3, a4, a5, a6, a7, a8) 8 :=
  nm_r (e' := 1) (by decide) (nm_r (e' := 0) (by decide) (br_f (by decide) (br_t rfl (br_f (by decide) ⟨pk_in 1 2 (by omega), br_f (by show ¬ a1 1 ≤ 0; rw [h]; decide) H⟩))))
theorem mm_place0 {post : Int32 → Prop} {fc fu : Int32} {a1 a2 a3 a4 a5 a6 a7 a8 : Nat → Int32} (h : a1 0 = 1) (H : post 0) : wpX_placeOf post (fc, fu, a1, a2, a3, a4, a5, a6, a7, a8) 0 :=
  nm_r (e' := 0) (by decide) (nm_r (e' := 0) (by decide) (br_t rfl (br_f (by decide) ⟨pk_in 0 2 (by omega), br_f (by show ¬ a1 0 ≤ 0; rw [h]; decide) H⟩)))
theorem mm_first {post : Int32 → Prop} {fc fu : Int32} {a1 a2 a3 a4 a5 a6 a7 a8 : Nat → Int32} (h : a4 72 = if a3 0 = a3 12 ∧ a3 1 = a3 13 then 0 else 1) (H : post (if a3 0 = a3 12 then (if a3 1 = a3 13 then 0 else 3) else 2)) : wpX_firstWord post (fc, fu, a1, a2, a3, a4, a5, a6, a7, a8) 6 0 := by
  refine ⟨pk_in 72 144 (by omega), nm_r (e' := a4 72) rfl ?_⟩
  rw [h]
  by_cases g : a3 0 = a3 12
  · by_cases g2 : a3 1 = a3 13
    · rw [if_pos g, if_pos g2] at H
      rw [if_pos ⟨g, g2⟩]
      exact br_t rfl H
    · rw [if_pos g, if_neg g2] at H
      rw [if_neg (fun t => g2 t.2)]
      exact br_f (by decide) ⟨1, br_t (by decide) ⟨pk_in 12 24 (by omega), pk_in 0 24 (by omega), br_t g.symm H⟩⟩
  · rw [if_neg g] at H
    rw [if_neg (fun t => g t.1)]
    exact br_f (by decide) ⟨1, br_t (by decide) ⟨pk_in 12 24 (by omega), pk_in 0 24 (by omega), br_f (fun t => g t.symm) H⟩⟩
theorem mm_diff {post : Int32 → St2 → Prop} {fc p q r s : Int32} {a1 a2 a3 a4 a5 a6 a7 a8 : Nat → Int32} (k : mm_K a1 a2 a3 p q r s) (H : ∀ b, (b 6 = if p = r ∧ q = s then 0 else 1) → post (if p = r then (if q = s then 0 else 3) else 2) (fc, 1, a1, a2, a3, b, a5, a6, a7, a8)) : wpX_difference post (fc, 0, a1, a2, a3, a4, a5, a6, a7, a8) 8 0 := by
  obtain ⟨h1, h2, h, rfl, rfl, rfl, rfl⟩ := k
  unfold wpX_difference
  refine mm_place8 h2 ?_
  refine mm_place0 h1 ?_
  refine br_f (by decide) (br_t (by decide) ?_)
  refine mm_refresh h1 h2 h (fun b hb => ?_)
  exact mm_first ((hb 72 (by omega)).trans (mm_pic72 a3)) (H b ((hb 6 (by omega)).trans (mm_pic6 a3)))
theorem mm_same1 {post : Int32 → St2 → Prop} {fc p q r s : Int32} {a1 a2 a3 a4 a5 a6 a7 a8 : Nat → Int32} (h : a4 6 = if p = r ∧ q = s then 0 else 1) (H : post (if p = r ∧ q = s then 1 else 0) (fc, 1, a1, a2, a3, a4, a5, a6, a7, a8)) : wpX_same post (fc, 1, a1, a2, a3, a4, a5, a6, a7, a8) := by
  refine br_f (by decide) ?_
  by_cases g : p = r ∧ q = s
  · rw [if_pos g] at h H
    exact br_t h H
  · rw [if_neg g] at h H
    exact br_f (by rw [h]; decide) H
theorem mm_same0 {post : Int32 → St2 → Prop} {fc p q r s : Int32} {a1 a2 a3 a4 a5 a6 a7 a8 : Nat → Int32} (k : mm_K a1 a2 a3 p q r s) (H : ∀ b, post (if p = r ∧ q = s then 1 else 0) (fc, 1, a1, a2, a3, b, a5, a6, a7, a8)) : wpX_same post (fc, 0, a1, a2, a3, a4, a5, a6, a7, a8) := by
  obtain ⟨h1, h2, h, rfl, rfl, rfl, rfl⟩ := k
  refine mm_refresh h1 h2 h (fun b hb => ?_)
  have e := (hb 6 (by omega)).trans (mm_pic6 a3)
  have H := H b
  by_cases g : a3 0 = a3 12 ∧ a3 1 = a3 13
  · rw [if_pos g] at e H
    exact br_t e H
  · rw [if_neg g] at e H
    exact br_f (by rw [e]; decide) H
theorem mm_letters {post : Int32 → Prop} (H : post 3) : wpX_lettersOf post () 13 :=
  ⟨4, br_f (by decide) (br_f (by decide) (nm_r (e' := 1) (by decide) (br_f (by decide) (br_f (by decide) (nm_r (e' := 2) (by decide) (br_f (by decide) (br_f (by decide) (nm_r (e' := 3) (by decide) (br_f (by decide) (br_t (by decide) H))))))))))⟩
theorem mm_resp {post : Int32 → Prop} {fc fu p q r s : Int32} {a1 a2 a3 a4 a5 a6 a7 a8 : Nat → Int32} (k : mm_K a1 a2 a3 p q r s) (H : post (16 * s + 4 * r + s)) : wpX_response post (fc, fu, a1, a2, a3, a4, a5, a6, a7, a8) 8 13 := by
  obtain ⟨h1, h2, h, rfl, rfl, rfl, rfl⟩ := k
  unfold wpX_response
  refine mm_place8 h2 ?_
  refine br_t (by decide) (br_f (by decide) (br_t (by decide) ?_))
  refine mm_letters ?_
  refine nm_r (e' := 2) (by decide) ⟨4, ?_⟩
  refine br_f (by decide) (nm_r (e' := 1) (by decide) ⟨pk_in 13 24 (by omega), nm_r (e' := 4 * 0 + a3 13) rfl (mm_after h 6 1 rfl rfl (by omega) (by omega) (nm_r (e' := 1) (by decide) ?_))⟩)
  refine br_f (by decide) (nm_r (e' := 0) (by decide) ⟨pk_in 12 24 (by omega), nm_r (e' := 4 * (4 * 0 + a3 13) + a3 12) rfl (mm_after h 6 0 rfl rfl (by omega) (by omega) (nm_r (e' := 0) (by decide) ?_))⟩)
  refine br_f (by decide) (nm_r (e' := 1) (by decide) ⟨pk_in 13 24 (by omega), nm_r (e' := 4 * (4 * (4 * 0 + a3 13) + a3 12) + a3 13) rfl (mm_after h 6 1 rfl rfl (by omega) (by omega) (nm_r (e' := -1) (by decide) ?_))⟩)
  refine br_t (by decide) ?_
  have e : 4 * (4 * (4 * 0 + a3 13) + a3 12) + a3 13 = 16 * a3 13 + 4 * a3 12 + a3 13 := by grind
  rw [e]
  exact H
theorem mm_r1 {x : Int32} (j : Nat) (hx : x = nI j) (hj : j < 2 ^ 31) : x - x / 1 * 1 = 0 := by
  subst hx
  have t : nI j - nI j / 1 * 1 = nI (j % 1) := pk_rem (d := 1) hj (by omega) (by omega)
  rw [t, Nat.mod_one]
  rfl
theorem mm_copy {post : Int32 → St2 → Prop} {fc fu p q r s : Int32} {a1 a2 a3 a4 a5 a6 a7 a8 : Nat → Int32} (k : mm_K a1 a2 a3 p q r s) (bv : Int32) (hb : ¬ bv < 0) (hb5 : ¬ 5 < bv) (H : ∀ b1 b2 b3, mm_K b1 b2 b3 r s r s → post 1 (fc, 0, b1, b2, b3, a4, a5, a6, a7, a8)) : wpX_copy post (fc, fu, a1, a2, a3, a4, a5, a6, a7, a8) 0 bv := by
  obtain ⟨h1, h2, h, _, _, h12, h13⟩ := k
  have hb5' : bv ≤ 5 := Int32.not_lt.mp hb5
  obtain ⟨j, hj, rfl⟩ := nI_of2 (n := 5) (M := 5) (by decide) hb hb5'
  have z0 : (0 : Int32) + nI j - (0 + nI j) / 1 * 1 = 0 := mm_r1 j (Int32.zero_add _) (by omega)
  refine br_t rfl (br_f (by decide) (br_f hb (br_t hb5' (nm_r (e' := 1) (by decide) ⟨pk_in 1 2 (by omega), br_f ?_ ⟨pk_in 1 2 (by omega), ?_⟩⟩))))
  · show ¬ a1 1 ≤ 0
    rw [h2]; decide
  · show wX_copy_44 post 0 (nI j) 1 (a1 1) fc fu a1 a2 a3 a4 a5 a6 a7 a8
    rw [h2]
    refine ⟨pk_in 0 2 (by omega), nm_r (e' := upd a1 0 1) rfl ⟨3, ?_⟩⟩
    refine br_f (by decide) ⟨by decide, nm_r (e' := 0) z0 (nm_r (e' := 0) (by decide) ⟨pk_in 12 24 (by omega), by decide, pk_in 0 24 (by omega), nm_r (e' := upd a2 0 0) ?_ ⟨pk_in 12 24 (by omega), pk_in 0 24 (by omega), nm_r (e' := upd a3 0 r) ?_ (nm_r (e' := 1) (by decide) ?_)⟩⟩)⟩
    · show upd a2 0 (a2 12 + nI j - (a2 12 + nI j) / 1 * 1) = upd a2 0 0
      rw [h 12 (by omega), z0]
    · show upd a3 0 (a3 12) = upd a3 0 r
      rw [h12]
    · refine br_f (by decide) ⟨by decide, nm_r (e' := 0) z0 (nm_r (e' := 1) (by decide) ⟨pk_in 13 24 (by omega), by decide, pk_in 1 24 (by omega), nm_r (e' := upd (upd a2 0 0) 1 0) ?_ ⟨pk_in 13 24 (by omega), pk_in 1 24 (by omega), nm_r (e' := upd (upd a3 0 r) 1 s) ?_ (nm_r (e' := 2) (by decide) ?_)⟩⟩)⟩
      · show upd (upd a2 0 0) 1 (upd a2 0 0 13 + nI j - (upd a2 0 0 13 + nI j) / 1 * 1) = upd (upd a2 0 0) 1 0
        rw [pk_un (by omega), h 13 (by omega), z0]
      · show upd (upd a3 0 r) 1 (upd a3 0 r 13) = upd (upd a3 0 r) 1 s
        rw [pk_un (by omega), h13]
      · refine br_t (by decide) (H _ _ _ ⟨pk_us, ?_, ?_, ?_, pk_us, ?_, ?_⟩)
        · rw [pk_un (by omega), h2]
        · intro i hi
          rw [mm_same_upd (h 0 (by omega)), mm_same_upd (h 1 (by omega))]
          exact h i hi
        · rw [pk_un (by omega), pk_us]
        · rw [pk_un (by omega), pk_un (by omega), h12]
        · rw [pk_un (by omega), pk_un (by omega), h13]
theorem mm_copyN {post : Int32 → St2 → Prop} {fc fu : Int32} {a1 a2 a3 a4 a5 a6 a7 a8 : Nat → Int32} (bv : Int32) (hb : bv < 0 ∨ 5 < bv) (H : post (-2) (fc, fu, a1, a2, a3, a4, a5, a6, a7, a8)) : wpX_copy post (fc, fu, a1, a2, a3, a4, a5, a6, a7, a8) 0 bv :=
  br_t rfl (br_f (by decide) (br_c (fun _ => H) (fun g => br_f (hb.elim (fun t => absurd t g) (fun t => Int32.not_le.mpr t)) H)))
theorem mm_reset {post : Int32 → St2 → Prop} {fc fu : Int32} {a1 a2 a3 a4 a5 a6 a7 a8 : Nat → Int32} (h1 : a1 0 = 1) (H : ∀ b7 b8, post 1 (fc, fu, a1, a2, a3, a4, a5, a6, b7, b8)) : wpX_reset post (fc, fu, a1, a2, a3, a4, a5, a6, a7, a8) 0 := by
  refine br_t rfl (br_f (by decide) ?_)
  refine pk_loop (fun n i s => wX_reset_11 post 0 fc fu n (nI i) a1 a2 a3 a4 a5 a6 a7 s) (fun _ _ => True) 64 0 a8 (by omega) trivial
    (fun n s _ => pk_le 64 64 (fun _ => ⟨pk_in 0 2 (by omega), nm_r (e' := 1) ?_ ⟨pk_in 1 64 (by omega), nm_r (e' := upd s 1 1) rfl (nm_r (e' := upd a7 0 1) rfl ⟨1, ?_⟩)⟩⟩) (fun z => absurd z (by omega)))
    (fun n i s hi _ hw => pk_le 64 i (fun z => absurd z (by omega)) (fun _ => ⟨pk_in i 64 hi, nm_e (nm_r (nI_1 i) (hw _ trivial))⟩))
  · show (1 : Int32) <<< (a1 0 &&& 31) - 1 = 1
    rw [h1]; decide
  · refine br_f (by decide) (br_f (by decide) ⟨pk_in 0 64 (by omega), nm_r (e' := 1) rfl (br_t (by decide) ⟨pk_in 1 64 (by omega), ?_⟩)⟩)
    exact H _ _
theorem mm_mach {post : Int32 → Prop} {x : Int32} (m : Nat) (hx : x = nI m) (hm : m < 2) (H : post 1) : wpX_isMachine post () x :=
  pk_eq m 0 (fun _ => H) (fun _ => pk_eq m 1 (fun _ => H) (fun _ => absurd hm (by omega)) hx) hx
theorem mm_set {post : Int32 → St2 → Prop} {fc fu : Int32} {a1 a2 a3 a4 a5 a6 a7 a8 : Nat → Int32} (h1 : a1 0 = 1) (h2 : a1 1 = 1) {x y v : Int32} (m t j : Nat) (hx : x = nI m) (hy : y = nI t) (hv : v = nI j) (hm : m < 2) (ht : t < 2) (hj : j < 4) (H : post (4 * a2 (12 * m + t) + a3 (12 * m + t)) (fc, 0, a1, upd a2 (12 * m + t) 0, upd a3 (12 * m + t) v, a4, a5, a6, a7, a8)) : wpX_set post (fc, fu, a1, a2, a3, a4, a5, a6, a7, a8) x y v := by
  have ea : a1 x.toNatClampNeg = nI 1 := by
    rw [hx, nI_clamp (by omega)]
    rcases (show m = 0 ∨ m = 1 by omega) with e | e
    · rw [e]; exact h1
    · rw [e]; exact h2
  have et : y >>> ((1 : Int32) &&& 31) = nI 0 := by
    rw [hy, pk_shrN (by omega) _ 1 (by decide)]
    exact congrArg nI (by omega)
  have ev : v >>> ((2 : Int32) &&& 31) = nI 0 := by
    rw [hv, pk_shrN (by omega) _ 2 (by decide)]
    exact congrArg nI (by omega)
  have ev3 : v &&& 3 = v := by
    rw [hv, pk_andN (by omega) 2 (by decide)]
    exact congrArg nI (by omega)
  have ex : 12 * x + y = nI (12 * m + t) := by
    rw [hx, hy, ← nI_add, ← pk_mul]; rfl
  have ec : (nI (12 * m + t)).toNatClampNeg = 12 * m + t := nI_clamp (by omega)
  have i24 : vp_in (nI (12 * m + t)) 24 := pk_in (12 * m + t) 24 (by omega)
  have hi : vp_in x 2 := pk_in m 2 hm hx
  have y0 : ¬ y < 0 := by rw [hy]; exact nI_pos (by omega)
  have v0 : ¬ v < 0 := by rw [hv]; exact nI_pos (by omega)
  unfold wpX_set
  refine mm_mach m hx hm ?_
  exact br_f (by decide) (br_f y0 ⟨hi, pk_lt 0 1 (fun _ => br_f v0 ⟨hi, pk_lt 0 1 (fun _ => nm_r ex ⟨i24, i24, nm_r (by rw [ec]) ⟨i24, nm_r (by rw [ec, ev, nI_0]) ⟨i24, nm_r (by rw [ec, ev3]) H⟩⟩⟩) (fun z => absurd z (by omega)) ev ea⟩) (fun z => absurd z (by omega)) et ea⟩)
end
section
theorem mm_z {f : Nat → Int32} {k : Nat} (h : ∀ j, f j = 0) : ∀ j, upd f k 0 j = 0 := by
  intro j
  rw [mm_same_upd (h k)]
  exact h j
theorem mm_232 {post : Int32 → St0 → Prop} {mc ms kc ks : Nat} {fc fu z0 z1 : Int32} {a1 a2 a3 a4 a5 a6 a7 a8 : Nat → Int32} (h1 : a1 0 = 1) (hz : z1 = z0) (H : post 1 ()) : wL_lawOf_232 post mc ms z0 z1 kc ks fc fu a1 a2 a3 a4 a5 a6 a7 a8 :=
  br_t hz (mm_reset h1 (fun _ _ => br_t rfl H))
theorem mm_227 {post : Int32 → St0 → Prop} {mc ms kc ks : Nat} {fc fu z0 : Int32} {a1 a2 a3 a4 a5 a6 a7 a8 : Nat → Int32} (h1 : a1 0 = 1) (hz : z0 = 1) (H : post 1 ()) : wL_lawOf_227 post mc ms z0 kc ks fc fu a1 a2 a3 a4 a5 a6 a7 a8 := by
  unfold wL_lawOf_227
  exact mm_232 h1 hz H
/-- behind a copy that was made -/
theorem mm_208g {post : Int32 → St0 → Prop} {mc ms kc ks : Nat} {fc x8 r s : Int32} {a1 a2 a3 a4 a5 a6 a7 a8 : Nat → Int32} (k : mm_K a1 a2 a3 r s r s) (H : post 1 ()) : wL_lawOf_208 post mc ms x8 1 1 1 kc ks fc 0 a1 a2 a3 a4 a5 a6 a7 a8 :=
  br_t rfl (mm_same0 k (fun b => br_f (by decide) (mm_227 k.1 (if_pos ⟨rfl, rfl⟩) H)))
/-- behind a copy that was refused -/
theorem mm_208n {post : Int32 → St0 → Prop} {mc ms kc ks : Nat} {fc x8 p q r s : Int32} {a1 a2 a3 a4 a5 a6 a7 a8 : Nat → Int32} (k : mm_K a1 a2 a3 p q r s) (h6 : a4 6 = if p = r ∧ q = s then 0 else 1) (h8 : x8 = if p = r ∧ q = s then 1 else 0) (H : post 1 ()) : wL_lawOf_208 post mc ms x8 0 (-2) (-2) kc ks fc 1 a1 a2 a3 a4 a5 a6 a7 a8 := by
  refine br_t rfl (mm_same1 (p := p) (q := q) (r := r) (s := s) h6 (br_t rfl ?_))
  by_cases g : p = r ∧ q = s
  · rw [if_pos g] at h8
    exact br_f (by rw [h8]; decide) (mm_227 k.1 (if_pos g) H)
  · rw [if_neg g] at h8
    exact br_t h8 (mm_232 k.1 (if_neg g) H)
theorem mm_189g {post : Int32 → St0 → Prop} {mc ms kc ks : Nat} {fc fu bv x8 p q r s : Int32} {a1 a2 a3 a4 a5 a6 a7 a8 : Nat → Int32} (k : mm_K a1 a2 a3 p q r s) (hb : ¬ bv < 0) (hb5 : ¬ 5 < bv) (H : post 1 ()) : wL_lawOf_189 post mc ms bv x8 1 kc ks fc fu a1 a2 a3 a4 a5 a6 a7 a8 :=
  mm_copy k bv hb hb5 (fun _ _ _ k' => br_f (by decide) (mm_208g k' H))
theorem mm_188 {post : Int32 → St0 → Prop} {mc ms kc ks : Nat} {fc bv x8 p q r s : Int32} {a1 a2 a3 a4 a5 a6 a7 a8 : Nat → Int32} (k : mm_K a1 a2 a3 p q r s) (h6 : a4 6 = if p = r ∧ q = s then 0 else 1) (h8 : x8 = if p = r ∧ q = s then 1 else 0) (hb : bv < 0 ∨ 5 < bv) (H : post 1 ()) : wL_lawOf_188 post mc ms bv x8 kc ks fc 1 a1 a2 a3 a4 a5 a6 a7 a8 := by
  unfold wL_lawOf_188 wL_lawOf_189
  exact mm_copyN bv hb (br_t rfl (mm_208n k h6 h8 H))
theorem mm_144 {post : Int32 → St0 → Prop} {mc ms kc ks : Nat} {fc bv x8 z0 z1 p q r s : Int32} {a1 a2 a3 a4 a5 a6 a7 a8 : Nat → Int32} (k : mm_K a1 a2 a3 p q r s) (h6 : a4 6 = if p = r ∧ q = s then 0 else 1) (h8 : x8 = if p = r ∧ q = s then 1 else 0) (hz : z1 = z0) (H : post 1 ()) : wL_lawOf_144 post mc ms bv r s x8 z0 z1 kc ks fc 1 a1 a2 a3 a4 a5 a6 a7 a8 :=
  br_t hz (mm_resp k (br_t rfl (br_c (fun g => mm_188 k h6 h8 (Or.inl g) H) (fun g => br_c (fun g5 => mm_188 k h6 h8 (Or.inr g5) H) (fun g5 => mm_189g k g g5 H)))))
theorem mm_116 {post : Int32 → St0 → Prop} {mc ms kc ks : Nat} {fc bv x8 z0 p q r s : Int32} {a1 a2 a3 a4 a5 a6 a7 a8 : Nat → Int32} (k : mm_K a1 a2 a3 p q r s) (h8 : x8 = if p = r ∧ q = s then 1 else 0) (hz : (if p = r then (if q = s then 0 else 3) else 2) = z0) (H : post 1 ()) : wL_lawOf_116 post mc ms bv r s x8 z0 kc ks fc 0 a1 a2 a3 a4 a5 a6 a7 a8 := by
  refine mm_diff k (fun b hb => br_t hz (mm_same1 (p := p) (q := q) (r := r) (s := s) hb ?_))
  refine br_c (fun g => mm_144 k hb h8 ?_ H) (fun g => mm_144 k hb h8 ?_ H)
  · rw [← h8, g]
  · by_cases c : p = r ∧ q = s
    · rw [if_pos c]
    · rw [if_neg c] at h8
      exact absurd h8 g
theorem mm_91 {post : Int32 → St0 → Prop} {mc ms kc ks : Nat} {fc bv x8 p q r s : Int32} {a1 a2 a3 a4 a5 a6 a7 a8 : Nat → Int32} (k : mm_K a1 a2 a3 p q r s) (h8 : x8 = if p = r ∧ q = s then 1 else 0) (H : post 1 ()) : wL_lawOf_91 post mc ms bv p q r s x8 kc ks fc 0 a1 a2 a3 a4 a5 a6 a7 a8 :=
  br_c (fun g => br_c (fun g2 => mm_116 k h8 (by rw [if_pos g, if_pos g2]) H) (fun g2 => mm_116 k h8 (by rw [if_pos g, if_neg g2]) H)) (fun g => mm_116 k h8 (by rw [if_neg g]) H)
theorem mm_90 {post : Int32 → St0 → Prop} {mc ms kc ks : Nat} {fc bv p q r s : Int32} {a1 a2 a3 a4 a5 a6 a7 a8 : Nat → Int32} (k : mm_K a1 a2 a3 p q r s) (h8 : ¬ (p = r ∧ q = s)) (H : post 1 ()) : wL_lawOf_90 post mc ms bv p q r s kc ks fc 0 a1 a2 a3 a4 a5 a6 a7 a8 := by
  unfold wL_lawOf_90
  exact mm_91 k (by rw [if_neg h8]) H
theorem mm_lawOf {post : Int32 → St0 → Prop} (x y bv : Int32) (H : post 1 ()) : wpL_lawOf post 9 356 () x y bv := by
  obtain ⟨p, hp, ep⟩ := pk_andE x (m := 3) 2 (by decide)
  obtain ⟨q, hq, eq⟩ := pk_andE (x >>> ((2 : Int32) &&& 31)) (m := 3) 2 (by decide)
  obtain ⟨r, hr, er⟩ := pk_andE y (m := 3) 2 (by decide)
  obtain ⟨s, hs, es⟩ := pk_andE (y >>> ((2 : Int32) &&& 31)) (m := 3) 2 (by decide)
  refine ⟨by omega, by omega, 8, 346, by omega, by omega, ?_⟩
  refine ⟨by omega, by omega, by omega, by omega, by omega, by omega, by omega, by omega, by omega, by omega, by omega, by omega, by omega, by omega, by omega, by omega, nm_e (nm_e ?_)⟩
  refine nm_r ep (nm_r eq (nm_r er (nm_r es ?_)))
  refine mm_set rfl rfl 0 0 p rfl rfl rfl (by omega) (by omega) hp ?_
  refine mm_set rfl rfl 0 1 q rfl rfl rfl (by omega) (by omega) hq ?_
  refine mm_set rfl rfl 1 0 r rfl rfl rfl (by omega) (by omega) hr ?_
  refine mm_set rfl rfl 1 1 s rfl rfl rfl (by omega) (by omega) hs ?_
  refine br_t ?_ ?_
  · show (4 : Int32) * 0 + 0 = 0
    decide
  · have k : mm_K (upd (upd (fun _ => 0) 0 1) 1 1) (upd (upd (upd (upd (fun _ => 0) (12 * 0 + 0) 0) (12 * 0 + 1) 0) (12 * 1 + 0) 0) (12 * 1 + 1) 0) (upd (upd (upd (upd (fun _ => 0) (12 * 0 + 0) (nI p)) (12 * 0 + 1) (nI q)) (12 * 1 + 0) (nI r)) (12 * 1 + 1) (nI s)) (nI p) (nI q) (nI r) (nI s) :=
      ⟨rfl, rfl, fun j _ => mm_z (mm_z (mm_z (mm_z (fun _ => rfl)))) j, rfl, rfl, rfl, rfl⟩
    exact br_c (fun g => br_c (fun g2 => mm_91 k (if_pos ⟨g, g2⟩).symm H) (fun g2 => mm_90 k (fun t => g2 t.2) H)) (fun g => mm_90 k (fun t => g t.1) H)
theorem mm_cell {post : Int32 → Prop} {L : Nat} {xs : Nat → Int32} {x : Int32} (hL : L ≤ 3) (i : Nat) (hx : x = nI i) (hi : i < 3) (H : ∀ v, post v) : wpL_cellAt post L xs () x :=
  pk_le L i (fun _ => H _) (fun z => ⟨pk_in i L z hx, H _⟩) rfl hx
theorem i_vc (xs : Nat → Int32) (L : Nat) (hL : L ≤ 3) : wpL_law (fun r => r = 1) L xs :=
  mm_cell hL 0 rfl (by omega) (fun x => mm_cell hL 1 rfl (by omega) (fun y => mm_cell hL 2 rfl (by omega) (fun b => ⟨9, 356, by omega, by omega, mm_lawOf x y b rfl⟩)))
end
