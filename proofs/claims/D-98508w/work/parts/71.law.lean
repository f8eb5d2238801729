set_option maxRecDepth 100000
/-! ===== the component: a law is read ===== -/
/-- the text of the tape; the place 1000 tells the reader's kind -/
def tapeT (tag : Int) (w : WR) : Nat → Int := fun k => if k = 1000 then tag else w 19 k
theorem isRd_k {s : St} {R : Nat} (h : (sk s R).1 = 6 ∨ (sk s R).1 = 17) : isRd s R = true := by
  unfold isRd isK
  rcases h with h | h <;> rw [h] <;> rfl
/-- a reader is made -/
theorem e_rd_init {γ : Type} {QC : St → Nat → Nat → Nat → γ → Prop} {s : St} {tag n : Nat} {w : WR} (ht : tag = 6 ∨ tag = 17) (hv : Vd s) (h31 : 31 ≤ sn s) (h19 : sk s 19 = (102, 400)) (hT : ∀ k, k < 400 → si s 19 k = iI (w 19 k)) (hb : tapeOk w) (hn : n ≤ 400) (hm1 : sn s + 3 ≤ smx s) (hm2 : ss s + 13 ≤ sms s) {f : Nat → Nat} : ∃ s', (bnd (F_X6_init (newO s (tag, 0) 8) (sn s) (some 19) (iI n)) fun _ s2 => gd (okN s2 3) <| nam (newO s2 (18, 0) 3) fun s5 => bnd (F_J2_init s5 (sn s2) (2 : Int32)) fun _ s8 => gd (isK s8 (sn s) tag) <| nam (setR s8 (sn s) 7 (some (sn s2))) fun s11 => (some ((), s11) : Option (Unit × St))) = some ((), s') ∧ RdB s' (sn s) (tapeT tag w) n 0 0 0 ∧ si s' (sn s) 4 = iI 0 ∧ (sk s' (sn s)).1 = tag ∧ sr s' (sn s) 7 = some (sn s + 1) ∧ Lis QC s' (sn s + 1) (sn s + 1) (sn s + 2) 2 [] f ∧ Old s s' ∧ Vd s' ∧ (sn s' = sn s + 3 ∧ ss s' = ss s + 13 ∧ smx s' = smx s ∧ sms s' = sms s) := by
  obtain ⟨s0, hs0⟩ : ∃ s0, s0 = newO s (tag, 0) 8 := ⟨_, rfl⟩
  have k0 : sk s0 (sn s) = (tag, 0) := by rw [hs0, nO_k, if_pos rfl]
  have o0 : Old s s0 := by rw [hs0]; exact Old.new
  have v0 : Vd s0 := by rw [hs0]; exact hv.new
  have m0 : sn s0 = sn s + 1 ∧ ss s0 = ss s + 8 ∧ smx s0 = smx s ∧ sms s0 = sms s := by rw [hs0]; exact ⟨rfl, rfl, rfl, rfl⟩
  obtain ⟨s1, hs1⟩ : ∃ s1, s1 = setI (setR s0 (sn s) 0 (some 19)) (sn s) 1 (iI n) := ⟨_, rfl⟩
  have f1 : Fil (sn s) s0 s1 := by rw [hs1]; exact Fil.R.tr Fil.I
  have rd0 : isRd s0 (sn s) = true := isRd_k (by rw [k0]; exact ht)
  have n1 : sn s1 = sn s + 1 := by rw [f1.2.2.1.1]; exact m0.1
  have m1 : ss s1 = ss s + 8 ∧ smx s1 = smx s ∧ sms s1 = sms s := by rw [f1.2.2.1.2.1, f1.2.2.1.2.2.1, f1.2.2.1.2.2.2]; exact m0.2
  have r1 : sr s1 (sn s) 0 = some 19 := by
    rw [hs1]
    show sr (setR s0 (sn s) 0 (some 19)) (sn s) 0 = _
    rw [sR_r, if_pos rfl, if_pos rfl]
  have i1 : ∀ k, si s1 (sn s) k = if k = 1 then iI n else 0 := fun k => by
    rw [hs1, si_set, if_pos rfl]
    by_cases e : k = 1
    · rw [if_pos e, if_pos e]
    · rw [if_neg e, if_neg e]
      show si s0 (sn s) k = 0
      rw [hs0, nO_i, if_pos rfl]
  obtain ⟨s2, hs2⟩ : ∃ s2, s2 = newO s1 (18, 0) 3 := ⟨_, rfl⟩
  have o2 : Old s1 s2 := by rw [hs2]; exact Old.new
  have n2 : sn s2 = sn s + 2 := by rw [hs2, nO_n, n1]
  have m2 : ss s2 = ss s + 11 ∧ smx s2 = smx s ∧ sms s2 = sms s := by rw [hs2, nO_s]; exact ⟨by omega, m1.2.1, m1.2.2⟩
  have k2 : sk s2 (sn s + 1) = (18, 0) := by rw [hs2, nO_k, if_pos n1.symm]
  have i2l : si s2 (sn s + 1) 2 = 0 := by rw [hs2, nO_i, if_pos n1.symm]
  have v2 : Vd s2 := by rw [hs2]; exact (f1.vd v0).new
  have eJ := e_J2_init (s := s2) (l := sn s + 1) (by rw [k2]) (by omega) (by omega) (by omega)
  obtain ⟨s3, hs3⟩ : ∃ s3, s3 = setR (newO (setI s2 (sn s + 1) 0 0) (104, 2) 2) (sn s + 1) 1 (some (sn s2)) := ⟨_, rfl⟩
  have n3' : sn (setI s2 (sn s + 1) 0 0) = sn s + 2 := n2
  have k3 : ∀ x, sk s3 x = if x = sn s + 2 then (104, 2) else sk s2 x := fun x => by rw [hs3, sR_k, nO_k, n3']; rfl
  have i3 : ∀ x j, x ≠ sn s + 2 → (x ≠ sn s + 1 ∨ j ≠ 0) → si s3 x j = si s2 x j := fun x j e e2 => by
    rw [hs3]
    show si (newO (setI s2 (sn s + 1) 0 0) (104, 2) 2) x j = _
    rw [nO_i, n3', if_neg e, si_set]
    by_cases e3 : x = sn s + 1
    · rw [if_pos e3, if_neg (e2.resolve_left (fun z => z e3))]
    · rw [if_neg e3]
  have r3 : ∀ x j, sr s3 x j = if x = sn s + 1 ∧ j = 1 then some (sn s + 2) else if x = sn s + 2 then none else sr s2 x j := fun x j => by
    rw [hs3, sR_r]
    by_cases e : x = sn s + 1
    · rw [if_pos e]
      by_cases e2 : j = 1
      · rw [if_pos e2, if_pos ⟨e, e2⟩, n2]
      · rw [if_neg e2, if_neg (fun z => e2 z.2), nO_r, n3', if_neg (by omega), if_neg (by omega)]
        rfl
    · rw [if_neg e, if_neg (fun z => e z.1), nO_r, n3']
      by_cases e3 : x = sn s + 2
      · rw [if_pos e3, if_pos e3]
      · rw [if_neg e3, if_neg e3]
        rfl
  have l3 : ∀ x, x < sn s → sl s3 x = sl s2 x := fun x hx => by
    rw [hs3]
    show sl (newO (setI s2 (sn s + 1) 0 0) (104, 2) 2) x = _
    rw [nO_l, n3', if_neg (by omega)]
    rfl
  have m3 : sn s3 = sn s + 3 ∧ ss s3 = ss s + 13 ∧ smx s3 = smx s ∧ sms s3 = sms s := by
    rw [hs3]
    exact ⟨by show sn s2 + 1 = _; omega, by show ss s2 + 2 = _; omega, m2.2.1, m2.2.2⟩
  have v3 : Vd s3 := by
    rw [hs3]
    exact Vd.new (s := setI s2 (sn s + 1) 0 0) v2
  have kR : (sk s3 (sn s)).1 = tag := by rw [k3, if_neg (by omega), (o2 _ (by omega)).1, f1.1, k0]
  obtain ⟨s4, hs4⟩ : ∃ s4, s4 = setR s3 (sn s) 7 (some (sn s1)) := ⟨_, rfl⟩
  have f4 : Fil (sn s) s3 s4 := by rw [hs4]; exact Fil.R
  have r4 : ∀ j, sr s4 (sn s) j = if j = 7 then some (sn s + 1) else sr s1 (sn s) j := fun j => by
    rw [hs4, sR_r, if_pos rfl, n1]
    by_cases e : j = 7
    · rw [if_pos e, if_pos e]
    · rw [if_neg e, if_neg e, r3, if_neg (by omega), if_neg (by omega), (o2 _ (by omega)).2.2.2]
  have i4 : ∀ j, si s4 (sn s) j = if j = 1 then iI n else 0 := fun j => by
    have e : si s4 (sn s) = si s3 (sn s) := by rw [hs4]; rfl
    rw [e, i3 _ _ (by omega) (Or.inl (by omega)), (o2 _ (by omega)).2.1, i1]
  have oA : ∀ x, x < sn s → sk s4 x = sk s x ∧ si s4 x = si s x ∧ sl s4 x = sl s x ∧ sr s4 x = sr s x := fun x hx => by
    have g4 := f4.2.2.2 x (by omega)
    have g1 := f1.2.2.2 x (by omega)
    refine ⟨by rw [f4.1, k3, if_neg (by omega), (o2 x (by omega)).1, f1.1, (o0 x hx).1], ?_, by rw [f4.2.1, l3 x hx, (o2 x (by omega)).2.2.1, f1.2.1, (o0 x hx).2.2.1], ?_⟩
    · rw [g4.1, ← (o0 x hx).2.1, ← g1.1, ← (o2 x (by omega)).2.1]
      funext j
      exact i3 x j (by omega) (Or.inl (by omega))
    · rw [g4.2, ← (o0 x hx).2.2.2, ← g1.2, ← (o2 x (by omega)).2.2.2]
      funext j
      rw [r3, if_neg (by omega), if_neg (by omega)]
  have g41 := f4.2.2.2 (sn s + 1) (by omega)
  have g42 := f4.2.2.2 (sn s + 2) (by omega)
  have ht2 : ∀ k : Nat, k < 400 → tapeT (tag : Int) w k = w 19 k := fun k hk => if_neg (by omega)
  refine ⟨s4, ?_, ⟨isRd_k (by rw [f4.1, kR]; exact ht), by rw [r4, if_neg (by decide)]; exact r1, by rw [(oA 19 (by omega)).1]; exact h19, fun k hk => by rw [(oA 19 (by omega)).2.1, ht2 k hk]; exact hT k hk, ⟨by rw [i4]; rfl, by rw [i4]; rfl, by rw [i4]; rfl, by rw [i4]; rfl⟩, ⟨hn, by omega⟩, fun k hk => by rw [ht2 k hk]; exact hb k (by omega) (by omega)⟩, by rw [i4]; rfl, by rw [f4.1]; exact kR, by rw [r4, if_pos rfl], ⟨⟨by rw [f4.1, k3, if_neg (by omega), k2], by rw [g41.2, r3, if_pos ⟨rfl, rfl⟩], by rw [f4.1, k3, if_pos rfl], Nat.zero_le _, by decide, by rw [g41.1, i3 _ _ (by omega) (Or.inr (by decide)), i2l]; rfl, fun i hi => by cases hi⟩, fun b hb => ?_, fun i x hx => (by cases hx), ⟨Nat.le_refl _, by rw [f4.2.2.1.1]; omega⟩, ⟨by omega, by rw [f4.2.2.1.1]; omega⟩, by omega⟩, oA, f4.vd v3, by rw [f4.2.2.1.1, f4.2.2.1.2.1, f4.2.2.1.2.2.1, f4.2.2.1.2.2.2]; exact m3⟩
  · unfold F_X6_init
    have rd1 : isRd (setR s0 (sn s) 0 (some 19)) (sn s) = true := rd0
    rw [← hs0, gd_ok rd0, nam_v, gd_ok rd1, nam_v, bnd_s, ← hs1, gd_ok (okN_t (by omega) (by omega)), nam_v, ← hs2, n1, eJ, bnd_s, ← hs3, isK_g kR, nam_v, ← n1, ← hs4]
  · rw [g41.2, r3, if_pos ⟨rfl, rfl⟩] at hb
    cases hb
    rw [f4.1, k3, if_pos rfl]
    refine ⟨by decide, fun i _ _ => ?_⟩
    rw [g42.2, r3, if_neg (by omega), if_pos rfl]
theorem LawAt.up {D D' : Nat → Prop} {s : St} {a : Nat} {law : List DC} (h : LawAt D s a law) (hD : ∀ b, D b → D' b) : LawAt D' s a law := fun s' hk hS => h s' (hk.le hD) hS
theorem ImO.up {D D' : Nat → Prop} {s : St} {a b : Nat} {wi : WR} {li : List (List DC)} (h : ImO D s a b wi li) (hD : ∀ x, D x → D' x) (h1 : ∀ x, a ≤ x → x < a + 9 → ¬ D' x) (h2 : ¬ D' b) : ImO D' s a b wi li := by
  obtain ⟨q1, q2, q3, ⟨c, f, q4, q5⟩, q6, q7, q8, q9⟩ := h
  exact ⟨q1, q2, q3, ⟨c, f, q4, fun i x hx => (q5 i x hx).up hD⟩, q6, h1, h2, q9⟩
/-- new cells, which from now on never change -/
theorem CI.grow {D : Nat → Prop} {s s' : St} {w : WR} {ls : List (List DC)} {o : Option Nat} {b0 : Nat} {im : IM} (h : CI D s w ls o b0 im) (ho : Old s s') (hv : Vd s') (hn : sn s ≤ sn s') : CI (fun b => D b ∨ (sn s ≤ b ∧ b < sn s')) s' w ls o b0 im := by
  obtain ⟨h1, h2, h3, h4, h5, h6, h7, h8⟩ := h
  have n31 := h2.2.1
  have c1 := h1.old h2.1 n31 h2.2.2.1 ho
  have kb : (sk s b0).1 = 104 := by
    obtain ⟨b, c, f, L, -⟩ := h1.2.2.1
    have := L.2.1
    rw [h4.1] at this
    cases this
    rw [L.2.2.1]
  have lb : b0 < sn s := h2.lt (by rw [kb]; decide)
  have up : ∀ x, D x → D x ∨ (sn s ≤ x ∧ x < sn s') := fun x hx => Or.inl hx
  have smx : ∀ x, x < sn s → same s s' x := fun x hx => ho x hx
  have c2 : C0 (fun b => D b ∨ (sn s ≤ b ∧ b < sn s')) s' w ls := by
    obtain ⟨q1, q2, ⟨b, c, f, L, E⟩, q4⟩ := c1
    exact ⟨q1, q2, ⟨b, c, f, L, fun i x hx => (E i x hx).up up⟩, fun b hb => hb.elim (q4 b) (fun z => by omega)⟩
  have hA : ∀ A, o = some A → A + 75 ≤ sn s := fun A hA => by
    have := h2.2.2.2.1
    rw [hA] at this
    exact this.1.2
  refine ⟨c2, ⟨hv, by omega, fun b hb => hb.elim (fun z => by have := h2.2.2.1 b z; omega) (fun z => z.2), h2.2.2.2.1.go hn (smx 26 (by omega)).2.2.2 (fun A hA' x x1 x2 => by
    have := hA A hA'
    exact ⟨(smx x (by omega)).1, fun _ _ => (smx x (by omega)).2.2.2⟩), fun A hA' x x1 x2 hx => hx.elim (h2.2.2.2.2 A hA' x x1 x2) (fun z => by have := hA A hA'; omega)⟩, h3.go h4.1 (smx 10 (by omega)).2.2.2 (smx b0 lb).1 (smx b0 lb).2.2.2, ⟨by rw [(smx 10 (by omega)).2.2.2]; exact h4.1, fun z => z.elim h4.2 (fun y => by omega)⟩, fun j hj => ?_, h6, h7, h8⟩
  have := h5 j hj
  cases e : im j with
  | none =>
    rw [e] at this
    show sr s' 12 j = none
    rw [(smx 12 (by omega)).2.2.2]
    exact this
  | some q =>
    rw [e] at this
    obtain ⟨c, f, L, -⟩ := this.2.2.2.2.1
    have lq : q.2.1 < sn s := h2.lt (by rw [L.2.2.1]; show (104 : Nat) ≠ 99; decide)
    have hq1 := this.2.1
    refine ⟨by rw [(smx 12 (by omega)).2.2.2]; exact this.1, (this.2.go hn (fun x x1 x2 => smx x (by omega)) (smx _ lq) (fun x hx => smx x (h2.2.2.1 x hx))).up up (fun x x1 x2 hx => hx.elim (this.2.2.2.2.2.2.1 x x1 x2) (fun z => by omega)) (fun z => z.elim this.2.2.2.2.2.2.2.1 (fun y => by omega))⟩
/-- a call that may read -/
def OpX (s : St) {α : Type} (x : Option (α × St)) (r : α) (w' : WR) (ls' : List (List DC)) (im' : IM) : Prop := ∃ D' s' o' b', x = some (r, s') ∧ CI D' s' w' ls' o' b' im' ∧ Tk s s' 4000 210000
/-- one law more -/
theorem e_law_add {D : Nat → Prop} {s : St} {w : WR} {ls : List (List DC)} {o : Option Nat} {b0 x : Nat} {im : IM} {law : List DC} (h : CI D s w ls o b0 im) (hl : ls.length < 6) (hx : LawAt D s x law) (hm1 : sn s < smx s) (hm2 : ss s + 400 ≤ sms s) : ∃ s' b', F_J2_add s 10 (some x) = some (iI 1, s') ∧ CI D s' w (ls ++ [law]) o b' im ∧ Tk s s' 1 400 := by
  obtain ⟨h1, h2, h3, h4, h5, h6, h7, h8⟩ := h
  obtain ⟨b, c, f, L, E⟩ := h1.2.2.1
  have hb : b = b0 := by
    have e := L.2.1
    rw [h4.1] at e
    exact (Option.some.inj e).symm
  subst hb
  have n31 := h2.2.1
  have kb : (sk s b).1 = 104 := by rw [L.2.2.1]
  have lb : b < sn s := h2.lt (by rw [kb]; decide)
  have hb0 := h1.b0 kb
  have hle := laws_e h1.1 h2.1 E
  have kx := hx.kd h1.1
  obtain ⟨s', b', c', e, L', T', O', K', t', v', hb', i', ib', r'⟩ := e_J2_add L h3 h2.1 (by omega) (by omega) (fun i hi => by rw [(hle i hi).1]; decide) (fun i hi => (hle i hi).2) (by rw [kx]; decide) hm1 hm2
  have hn := t'.1
  have o2 : ∀ z, z < sn s → z ≠ 10 → z ≠ b → same s s' z := fun z z1 z2 z3 => O' z z1 (fun y => y.elim z2 z3)
  have hK : Kp D s s' := fun z hz => o2 z (h2.2.2.1 z hz) (by have := h1.2.2.2 z hz; omega) (fun y => h4.2 (by rw [← y]; exact hz))
  have hlt : ∀ q ∈ rC, q.1 < 31 ∧ q.1 ≠ 10 ∧ q.1 ≠ 11 := by decide
  have hlen : (ls ++ [law]).length = ls.length + 1 := List.length_append
  have hC : C0 D s' w (ls ++ [law]) := by
    refine ⟨⟨fun a ha => by rw [(K' a (by omega)).1]; exact h1.1.1 a ha, fun q hq => by
      have := hlt q hq
      rw [(o2 q.1 (by omega) this.2.1 (by omega)).2.2.2]; exact h1.1.2 q hq⟩, fun r k k0 hr => ?_, ⟨b', c', ladd f ls.length x, by rw [hlen]; exact L', fun i y hy => ?_⟩, h1.2.2.2⟩
    · have h30 := relC_30 hr
      have h10 : r ≠ 10 := fun z => by rw [z] at hr; exact hr
      have h11 : r ≠ 11 := fun z => by rw [z] at hr; exact hr
      rw [(o2 r (by omega) h10 (by omega)).2.1]
      exact h1.2.1 r k k0 hr
    · unfold ladd
      by_cases ei : i < ls.length
      · rw [List.getElem?_append_left ei] at hy
        rw [if_neg (by omega)]
        exact (E i y hy).go hK
      · rw [List.getElem?_append_right (by omega)] at hy
        have h0 : i - ls.length = 0 := by
          by_cases h0 : i - ls.length = 0
          · exact h0
          · rw [List.getElem?_eq_none (by simp; omega)] at hy
            cases hy
        rw [h0] at hy
        cases hy
        rw [if_pos (by omega)]
        exact hx.go hK
  have hA : ∀ A, o = some A → 31 ≤ A ∧ A + 75 ≤ sn s := fun A hA => by
    have := h2.2.2.2.1
    rw [hA] at this
    exact this.1
  refine ⟨s', b', e, ⟨hC, ⟨v', by omega, fun z hz => by have := h2.2.2.1 z hz; omega, h2.2.2.2.1.go hn (o2 26 (by omega) (by decide) (by omega)).2.2.2 (fun A hA' z z1 z2 => by
    have := hA A hA'
    exact ⟨(K' z (by omega)).1, fun k104 _ => (o2 z (by omega) (by omega) (fun y => k104 (by rw [y]; exact kb))).2.2.2⟩), h2.2.2.2.2⟩, by rw [hlen]; exact T', ⟨L'.2.1, ?_⟩, fun j hj => ?_, fun j q hj hq => ?_, h7, h8⟩, t'⟩
  · rcases hb' with z | z
    · rw [z]; exact h4.2
    · exact fun y => by have := h2.2.2.1 b' y; omega
  · have hI := h5 j hj
    cases ej : im j with
    | none =>
      rw [ej] at hI
      show sr s' 12 j = none
      rw [(o2 12 (by omega) (by decide) (by omega)).2.2.2]
      exact hI
    | some q =>
      rw [ej] at hI
      have hq6 := h6 j q hj ej
      obtain ⟨c3, f3, L3, -⟩ := hI.2.2.2.2.1
      have lq : q.2.1 < sn s := h2.lt (by rw [L3.2.2.1]; show (104 : Nat) ≠ 99; decide)
      have hq1 := hI.2.1
      refine ⟨by rw [(o2 12 (by omega) (by decide) (by omega)).2.2.2]; exact hI.1, hI.2.go hn (fun z z1 z2 => o2 z (by omega) (by omega) (fun y => ?_)) (o2 _ lq (by omega) hq6) hK⟩
      have kk : z = q.1 ∨ (∃ j', j' < 7 ∧ z = q.1 + 1 + j') ∨ z = q.1 + 8 := by
        by_cases e1 : z = q.1
        · exact Or.inl e1
        · by_cases e2 : z = q.1 + 8
          · exact Or.inr (Or.inr e2)
          · exact Or.inr (Or.inl ⟨z - q.1 - 1, by omega, by omega⟩)
      rw [← y] at kb
      rcases kk with rfl | ⟨j', hj', rfl⟩ | rfl
      · rw [hI.2.2.1.1] at kb; exact absurd kb (by decide)
      · rw [(hI.2.2.1.2.1 j' hj').2] at kb; exact absurd kb (show (100 : Nat) ≠ 104 by decide)
      · rw [L3.1] at kb; exact absurd kb (by decide)
  · have hI := h5 j hj
    rw [hq] at hI
    obtain ⟨c3, f3, L3, -⟩ := hI.2.2.2.2.1
    have lq : q.2.1 < sn s := h2.lt (by rw [L3.2.2.1]; show (104 : Nat) ≠ 99; decide)
    rcases hb' with z | z
    · rw [z]; exact h6 j q hj hq
    · omega
