set_option maxRecDepth 100000
/-! ===== the component as a whole: registers, laws, flights, images ===== -/
/-- an image at a, its list's array at b -/
def ImO (D : Nat → Prop) (s : St) (a b : Nat) (wi : WR) (li : List (List DC)) : Prop := (31 ≤ a ∧ a + 9 ≤ sn s ∧ 31 ≤ b) ∧ SkT s a (fun j => a + 1 + j) (a + 8) ∧ RgT s a (fun j => a + 1 + j) wi ∧ (∃ (c : Nat) (f : Nat → Nat), LstE s (a + 8) b c li.length f ∧ ∀ i x, li[i]? = some x → LawAt D s (f i) x) ∧ Tl s (a + 8) li.length ∧ (∀ x, a ≤ x → x < a + 9 → ¬ D x) ∧ ¬ D b ∧ Wf wi li
abbrev IM : Type := Nat → Option (Nat × Nat × WR × List (List DC))
def ImE (D : Nat → Prop) (s : St) (j : Nat) : Option (Nat × Nat × WR × List (List DC)) → Prop
  | none => sr s 12 j = none
  | some q => sr s 12 j = some q.1 ∧ ImO D s q.1 q.2.1 q.2.2.1 q.2.2.2
def CI (D : Nat → Prop) (s : St) (w : WR) (ls : List (List DC)) (o : Option Nat) (b0 : Nat) (im : IM) : Prop :=
  C0 D s w ls ∧ Mem D s o ∧ Tl s 10 ls.length ∧ (sr s 10 1 = some b0 ∧ ¬ D b0) ∧ (∀ j, j < 2 → ImE D s j (im j)) ∧ (∀ j q, j < 2 → im j = some q → q.2.1 ≠ b0) ∧ (∀ q r, im 0 = some q → im 1 = some r → q.1 ≠ r.1 ∧ q.2.1 ≠ r.2.1) ∧ (∀ j q, j < 2 → im j = some q → ∀ A, o = some A → ∀ x, (q.1 ≤ x ∧ x < q.1 + 9) ∨ x = q.2.1 → ¬ (A ≤ x ∧ x < A + 75))
theorem LstE.go {s s' : St} {a b c n : Nat} {f : Nat → Nat} (h : LstE s a b c n f) (h1 : same s s' a) (h2 : same s s' b) : LstE s' a b c n f := by
  obtain ⟨p1, p2, p3, p4, p5, p6, p7⟩ := h
  exact ⟨by rw [h1.1]; exact p1, by rw [h1.2.2.2]; exact p2, by rw [h2.1]; exact p3, p4, p5, by rw [h1.2.1]; exact p6, by rw [h2.2.2.2]; exact p7⟩
theorem Tl.go {s s' : St} {l n b : Nat} (h : Tl s l n) (hb : sr s l 1 = some b) (h1 : sr s' l = sr s l) (h2 : sk s' b = sk s b) (h3 : sr s' b = sr s b) : Tl s' l n := fun b' hb' => by
  rw [h1, hb] at hb'
  cases hb'
  rw [h2, h3]
  exact h b hb
/-- an image stays, if its cells do -/
theorem ImO.go {D : Nat → Prop} {s s' : St} {a b : Nat} {wi : WR} {li : List (List DC)} (h : ImO D s a b wi li) (hn : sn s ≤ sn s') (h1 : ∀ x, a ≤ x → x < a + 9 → same s s' x) (h2 : same s s' b) (hK : Kp D s s') : ImO D s' a b wi li := by
  obtain ⟨q1, ⟨q2, q3, q4⟩, ⟨q5, q6⟩, ⟨c, f, q7, q8⟩, q9, q10, q11, q12⟩ := h
  have ha := h1 a (by omega) (by omega)
  have hj : ∀ j, j < 7 → same s s' (a + 1 + j) := fun j hj => h1 _ (by omega) (by omega)
  refine ⟨⟨q1.1, by omega, q1.2.2⟩, ⟨by rw [ha.1]; exact q2, fun j h7 => ⟨by rw [ha.2.2.2]; exact (q3 j h7).1, by rw [(hj j h7).1]; exact (q3 j h7).2⟩, by rw [ha.2.2.2]; exact q4⟩, ⟨fun j k h7 h0 hk => by rw [(hj j h7).2.1]; exact q5 j k h7 h0 hk, fun k h8 h10 => by rw [ha.2.1]; exact q6 k h8 h10⟩, ⟨c, f, q7.go (h1 _ (by omega) (by omega)) h2, fun i x hx => (q8 i x hx).go hK⟩, q9.go q7.2.1 (h1 (a + 8) (by omega) (by omega)).2.2.2 h2.1 h2.2.2.2, q10, q11, q12⟩
theorem Mem.lt {D : Nat → Prop} {s : St} {o : Option Nat} (h : Mem D s o) {b : Nat} (hb : (sk s b).1 ≠ 99) : b < sn s := h.1.lt hb
theorem Sm.same {s s' : St} (h : Sm s s') {x : Nat} (hx : 31 ≤ x) : same s s' x := ⟨by rw [h.1], h.2.2.2.1 x hx, h.2.2.2.2 x (by omega) (by omega), by rw [h.2.1]⟩
theorem CI.sm {D : Nat → Prop} {s s' : St} {w w' : WR} {ls : List (List DC)} {o : Option Nat} {b0 : Nat} {im : IM} (h : CI D s w ls o b0 im) (hC : C0 D s' w' ls) (hs : Sm s s') : CI D s' w' ls o b0 im := by
  obtain ⟨h1, h2, h3, h4, h5, h6, h7, h8⟩ := h
  have hK : Kp D s s' := fun b hb => hs.same (hC.2.2.2 b hb)
  refine ⟨hC, h2.sm hs, h3.go h4.1 (by rw [hs.2.1]) (by rw [hs.1]) (by rw [hs.2.1]), ⟨by rw [hs.2.1]; exact h4.1, h4.2⟩, fun j hj => ?_, h6, h7, h8⟩
  have := h5 j hj
  cases e : im j with
  | none =>
    rw [e] at this
    show sr s' 12 j = none
    rw [hs.2.1]
    exact this
  | some q =>
    rw [e] at this
    refine ⟨by rw [hs.2.1]; exact this.1, this.2.go (Nat.le_of_eq hs.2.2.1.1.symm) (fun x h1 h2 => hs.same (by have := this.2.1.1; omega)) ?_ hK⟩
    exact hs.same this.2.1.2.2
theorem Gone.same {s s' : St} {o o' : Option Nat} (h : Gone s s' o o') {x : Nat} (hx : 31 ≤ x) (hn : x < sn s) (hA : ∀ A, o = some A → ¬ (A ≤ x ∧ x < A + 75)) : same s s' x :=
  ⟨(h.1.2.1 x hn).1, (h.1.2.2 x hx hn hA).1, (h.1.2.2 x hx hn hA).2, (h.1.2.1 x hn).2 (by omega)⟩
theorem CI.gone {D : Nat → Prop} {s s' : St} {w : WR} {ls : List (List DC)} {o o' : Option Nat} {b0 : Nat} {im : IM} (h : CI D s w ls o b0 im) (hC : C0 D s' w ls) (hM : Mem D s' o') (hg : Gone s s' o o') : CI D s' w ls o' b0 im := by
  obtain ⟨h1, h2, h3, h4, h5, h6, h7, h8⟩ := h
  have hK : Kp D s s' := fun b hb => hg.same (hC.2.2.2 b hb) (h2.2.2.1 b hb) (fun A hA hx => h2.2.2.2.2 A hA b hx.1 hx.2 hb)
  have kb : (sk s b0).1 = 104 := by
    obtain ⟨b, c, f, L, -⟩ := h1.2.2.1
    have := L.2.1
    rw [h4.1] at this
    cases this
    rw [L.2.2.1]
  have lb : b0 < sn s := h2.lt (by rw [kb]; decide)
  have b26 : b0 ≠ 26 := fun z => by
    rw [z, h1.1.1 26 (by decide)] at kb
    exact absurd kb (by decide)
  have s10 : sr s' 10 = sr s 10 := (hg.1.2.1 10 (by have := h2.2.1; omega)).2 (by decide)
  have s12 : sr s' 12 = sr s 12 := (hg.1.2.1 12 (by have := h2.2.1; omega)).2 (by decide)
  refine ⟨hC, hM, h3.go h4.1 s10 (hg.1.2.1 b0 lb).1 ((hg.1.2.1 b0 lb).2 b26), ⟨by rw [s10]; exact h4.1, h4.2⟩, fun j hj => ?_, h6, h7, fun j q hj hq A hA x hx => ?_⟩
  · have := h5 j hj
    cases e : im j with
    | none =>
      rw [e] at this
      show sr s' 12 j = none
      rw [s12]
      exact this
    | some q =>
      rw [e] at this
      obtain ⟨c, f, L, -⟩ := this.2.2.2.2.1
      have lq : q.2.1 < sn s := h2.lt (by rw [L.2.2.1]; show (104 : Nat) ≠ 99; decide)
      have hq1 := this.2.1
      exact ⟨by rw [s12]; exact this.1, this.2.go hg.2.1.1 (fun x h1 h2 => hg.same (by omega) (by omega) (fun A hA => h8 j q hj e A hA x (Or.inl ⟨h1, h2⟩))) (hg.same hq1.2.2 lq (fun A hA => h8 j q hj e A hA _ (Or.inr rfl))) hK⟩
  · rcases hg.2.2 with z | z
    · rw [z] at hA
      exact h8 j q hj hq A hA x hx
    · rw [z.2] at hA
      cases hA
      have := h5 j hj
      rw [hq] at this
      obtain ⟨c, f, L, -⟩ := this.2.2.2.2.1
      have lq : q.2.1 < sn s := h2.lt (by rw [L.2.2.1]; show (104 : Nat) ≠ 99; decide)
      have hq1 := this.2.1
      omega
/-- the state itself, as images are -/
theorem RCi.rg {s : St} {w : WR} (h : RCi s w) : RgT s 2 (fun j => 3 + j) w := by
  refine ⟨fun j k hj h0 hk => h (3 + j) k h0 ?_, fun k h8 h10 => h 2 k (by omega) ⟨h8, h10⟩⟩
  match j, hj with
  | 0, _ => exact hk
  | 1, _ => exact hk
  | 2, _ => exact hk
  | 3, _ => exact hk
  | 4, _ => exact hk
  | 5, _ => exact hk
  | 6, _ => exact hk
theorem SkC.skt {s : St} (h : SkC s) : SkT s 2 (fun j => 3 + j) 10 := by
  refine ⟨by rw [h.1 2 (by decide)]; rfl, fun j hj => ?_, h.ref 24 rfl⟩
  match j, hj with
  | 0, _ => exact ⟨h.ref 17 rfl, h.1 3 (by decide)⟩
  | 1, _ => exact ⟨h.ref 18 rfl, h.1 4 (by decide)⟩
  | 2, _ => exact ⟨h.ref 19 rfl, h.1 5 (by decide)⟩
  | 3, _ => exact ⟨h.ref 20 rfl, h.1 6 (by decide)⟩
  | 4, _ => exact ⟨h.ref 21 rfl, h.1 7 (by decide)⟩
  | 5, _ => exact ⟨h.ref 22 rfl, h.1 8 (by decide)⟩
  | 6, _ => exact ⟨h.ref 23 rfl, h.1 9 (by decide)⟩
/-- the registers after back -/
def bkW (w wi : WR) : WR := fun r k => if 2 ≤ r ∧ r ≤ 9 then wi r k else w r k
theorem LawAt.kd {D : Nat → Prop} {s : St} {a : Nat} {law : List DC} (h : LawAt D s a law) (hS : SkC s) : (sk s a).1 = 16 := by
  obtain ⟨l, b, c, f, h1, -⟩ := h s Kp.rf hS
  exact h1
/-- the laws of a list, as the copier wants them -/
theorem laws_e {D : Nat → Prop} {s : St} {ls : List (List DC)} {f : Nat → Nat} (hS : SkC s) (hv : Vd s) (hE : ∀ i x, ls[i]? = some x → LawAt D s (f i) x) : ∀ i, i < ls.length → (sk s (f i)).1 = 16 ∧ f i < sn s := fun i hi => by
  have h := (hE i _ (List.getElem?_eq_getElem hi)).kd hS
  exact ⟨h, hv.lt (by rw [h]; decide)⟩
theorem kC_104 : ∀ y, y < 31 → (kC y).1 = 104 → y = 11 := by decide
theorem C0.b0 {D : Nat → Prop} {s : St} {w : WR} {ls : List (List DC)} (h : C0 D s w ls) {b : Nat} (hb : (sk s b).1 = 104) : b = 11 ∨ 31 ≤ b := by
  by_cases h31 : b < 31
  · rw [h.1.1 b h31] at hb
    exact Or.inl (kC_104 b h31 hb)
  · exact Or.inr (by omega)
theorem rl_rel {s : St} {w : WR} (h : RgT s 2 (fun j => 3 + j) w) {r : Nat} {k : Int} (h2 : 2 ≤ r) (h9 : r ≤ 9) (h0 : 0 ≤ k) (hr : relC r k) : si s r k.toNat = iI (w r k) := by
  by_cases e2 : r = 2
  · rw [e2] at hr ⊢
    exact h.2 k hr.1 hr.2
  · obtain ⟨j, rfl⟩ : ∃ j, r = 3 + j := ⟨r - 3, by omega⟩
    refine h.1 j k (by omega) h0 ?_
    have hj : j = 0 ∨ j = 1 ∨ j = 2 ∨ j = 3 ∨ j = 4 ∨ j = 5 ∨ j = 6 := by omega
    rcases hj with rfl | rfl | rfl | rfl | rfl | rfl | rfl <;> exact hr
theorem FlS.go {s s' : St} {a b c : Nat} (h : FlS s a b c) (f : ∀ x, x = a ∨ x = b ∨ x = c → sk s' x = sk s x ∧ sr s' x = sr s x) : FlS s' a b c := by
  unfold FlS
  rw [(f a (Or.inl rfl)).1, (f a (Or.inl rfl)).2, (f b (Or.inr (Or.inl rfl))).1, (f c (Or.inr (Or.inr rfl))).1]
  exact h
theorem FA.go {s s' : St} {o : Option Nat} (h : FA s o) (hn : sn s ≤ sn s') (h26 : sr s' 26 = sr s 26) (f : ∀ A, o = some A → ∀ x, A ≤ x → x < A + 75 → sk s' x = sk s x ∧ ((sk s x).1 ≠ 104 → (sk s x).1 ≠ 18 → sr s' x = sr s x)) : FA s' o := by
  cases o with
  | none =>
    intro k hk
    rw [h26]
    exact h k hk
  | some A =>
    refine ⟨by have := h.1; omega, fun k hk => ⟨by rw [h26]; exact (h.2 k hk).1, ?_⟩⟩
    have hS := (h.2 k hk).2
    have f := f A rfl
    obtain ⟨p1, p2, p3, p4, p5, p6, p7⟩ := hS
    refine ⟨by rw [(f _ (by omega) (by omega)).1]; exact p1, ?_, ?_, by rw [(f _ (by omega) (by omega)).1]; exact p4, by rw [(f _ (by omega) (by omega)).1]; exact p5, ?_, p7⟩
    · rw [(f (A + 3 * k) (by omega) (by omega)).2 (by rw [p1]; decide) (by rw [p1]; decide)]; exact p2
    · rw [(f (A + 3 * k) (by omega) (by omega)).2 (by rw [p1]; decide) (by rw [p1]; decide)]; exact p3
    · rw [(f (A + 3 * k) (by omega) (by omega)).2 (by rw [p1]; decide) (by rw [p1]; decide)]; exact p6
noncomputable def backV (im : IM) (k : Int) : Int := if 0 ≤ k ∧ k ≤ 1 then (match im k.toNat with | none => -2 | some _ => 0) else -1
noncomputable def backW (w : WR) (im : IM) (k : Int) : WR := if 0 ≤ k ∧ k ≤ 1 then (match im k.toNat with | none => refW w (-2) | some q => wup (wup (bkW w q.2.2.1) 0 15 0) 0 0 0) else refW w (-1)
noncomputable def backL (ls : List (List DC)) (im : IM) (k : Int) : List (List DC) := if 0 ≤ k ∧ k ≤ 1 then (match im k.toNat with | none => ls | some q => q.2.2.2) else ls
theorem e_X0_back_1 {D : Nat → Prop} {s : St} {w : WR} {ls : List (List DC)} {o : Option Nat} {b0 : Nat} {im : IM} (h : CI D s w ls o b0 im) (hW : Wf w ls) {k : Nat} (hk : k < 2) {a b : Nat} {wi : WR} {li : List (List DC)} (hq : im k = some (a, b, wi, li)) (hm1 : sn s + 2 ≤ smx s) (hm2 : ss s + 32 ≤ sms s) : ∃ s' b', F_X1_takes s 2 (some a) = some ((), s') ∧ CI D s' (bkW w wi) li o b' im ∧ Tk s s' 2 32 := by
  obtain ⟨h1, h2, h3, h4, h5, h6, h7, h8⟩ := h
  have hI := h5 k hk
  rw [hq] at hI
  obtain ⟨hr12, ⟨i1, i2, i3, ⟨c2, f, L2, hE2⟩, i5, i6, i7, i8⟩⟩ := hI
  obtain ⟨b0', c1, f1, L1, hE1⟩ := h1.2.2.1
  have : b0' = b0 := by
    have e := L1.2.1
    rw [h4.1] at e
    exact (Option.some.inj e).symm
  subst this
  have kb0 : (sk s b0').1 = 104 := by rw [L1.2.2.1]
  have hb0 := h1.b0 kb0
  have hx : ∀ x, Tset 2 (fun j => 3 + j) 10 b0' x → ¬ Tset a (fun j => a + 1 + j) (a + 8) b x := by
    intro x hx hy
    have hb : b ≠ b0' := h6 k _ hk hq
    have i1 : 31 ≤ a ∧ a + 9 ≤ sn s ∧ 31 ≤ b := i1
    have big : a ≤ x ∧ x < a + 9 ∨ x = b := by
      rcases hy with y | ⟨j', hj', y⟩ | y | y
      · omega
      · dsimp only at y; omega
      · omega
      · omega
    rcases hx with z | ⟨j, hj, z⟩ | z | z
    · omega
    · dsimp only at z; omega
    · omega
    · rw [z] at hy
      rcases hy with y | ⟨j', hj', y⟩ | y | y
      · rw [y, i2.1] at kb0; exact absurd kb0 (by decide)
      · rw [y, (i2.2.1 j' hj').2] at kb0; exact absurd kb0 (show (100 : Nat) ≠ 104 by decide)
      · rw [y, L2.1] at kb0; exact absurd kb0 (by decide)
      · exact hb y.symm
  obtain ⟨s', b', c', e, S', R', L', T', O', K', r', t', v', hb'⟩ := e_X1_takes h1.1.skt i2 i3 L1 h3 L2 i5 h2.1 hx (fun i j _ _ z => by omega) (by have := i8.frc.2; omega) (by have := hW.frc.2; omega) (laws_e h1.1 h2.1 hE2) hm1 hm2
  have n31 := h2.2.1
  have nT : ∀ x, 31 ≤ x → x ≠ b0' → ¬ Tset 2 (fun j => 3 + j) 10 b0' x := fun x hx hb z => by
    rcases z with z | ⟨j, hj, z⟩ | z | z
    · omega
    · dsimp only at z; omega
    · omega
    · exact hb z
  have hK : Kp D s s' := fun x hx => O' x (h2.2.2.1 x hx) (nT x (h1.2.2.2 x hx) (fun z => h4.2 (by rw [← z]; exact hx)))
  have ne104 : ∀ {x m : Nat}, (sk s x).1 = m → m ≠ 104 → x ≠ b0' := fun hm h z => h (by rw [← hm, z, kb0])
  have hC' : C0 D s' (bkW w wi) li := by
    have hlt : ∀ q ∈ rC, q.1 < 31 ∧ q.1 ≠ 10 ∧ q.1 ≠ 11 := by decide
    refine ⟨⟨fun x hx => by rw [K' x (by omega)]; exact h1.1.1 x hx, fun q hq => ?_⟩, fun r k k0 hr => ?_, ⟨b', c', f, L', fun i x hx => (hE2 i x hx).go hK⟩, h1.2.2.2⟩
    · have := hlt q hq
      rw [r' q.1 (by omega) this.2.1 (by omega)]
      exact h1.1.2 q hq
    · have h30 := relC_30 hr
      unfold bkW
      by_cases h29 : 2 ≤ r ∧ r ≤ 9
      · rw [if_pos h29]
        exact rl_rel R' h29.1 h29.2 k0 hr
      · rw [if_neg h29]
        have h10 : r ≠ 10 := fun z => by rw [z] at hr; exact hr
        have h11 : r ≠ 11 := fun z => by rw [z] at hr; exact hr
        rw [(O' r (by omega) (fun z => by
          rcases z with z | ⟨j, hj, z⟩ | z | z
          · omega
          · dsimp only at z; omega
          · omega
          · omega)).2.1]
        exact h1.2.1 r k k0 hr
  have lb0 : b0' < sn s := h2.lt (by rw [kb0]; decide)
  have h26 : sr s' 26 = sr s 26 := r' 26 (by omega) (by decide) (by omega)
  have h12 : sr s' 12 = sr s 12 := r' 12 (by omega) (by decide) (by omega)
  have hFA : FA s' o := h2.2.2.2.1.go t'.1 h26 fun A hA x hx1 hx2 => by
    have := h2.2.2.2.1
    rw [hA] at this
    have hAA := this.1
    refine ⟨K' x (by omega), fun k104 _ => r' x (by omega) (by omega) (fun z => k104 (by rw [z]; exact kb0))⟩
  refine ⟨s', b', e, ⟨hC', ⟨v', by have := t'.1; omega, fun x hx => by have := t'.1; have := h2.2.2.1 x hx; omega, hFA, h2.2.2.2.2⟩, T', ⟨L'.2.1, ?_⟩, fun j hj => ?_, fun j q hj hq2 => ?_, h7, h8⟩, t'⟩
  · rcases hb' with z | z
    · rw [z]; exact h4.2
    · exact fun y => by have := h2.2.2.1 b' y; omega
  · have hI := h5 j hj
    cases ej : im j with
    | none =>
      rw [ej] at hI
      show sr s' 12 j = none
      rw [h12]
      exact hI
    | some q =>
      rw [ej] at hI
      have hq6 := h6 j q hj ej
      obtain ⟨c, f, L, -⟩ := hI.2.2.2.2.1
      have lq : q.2.1 < sn s := h2.lt (by rw [L.2.2.1]; show (104 : Nat) ≠ 99; decide)
      have hq1 := hI.2.1
      refine ⟨by rw [h12]; exact hI.1, hI.2.go t'.1 (fun x x1 x2 => O' x (by omega) (nT x (by omega) ?_)) (O' _ lq (nT _ hq1.2.2 hq6)) hK⟩
      have kk : x = q.1 ∨ (∃ j, j < 7 ∧ x = q.1 + 1 + j) ∨ x = q.1 + 8 := by
        by_cases e1 : x = q.1
        · exact Or.inl e1
        · by_cases e2 : x = q.1 + 8
          · exact Or.inr (Or.inr e2)
          · exact Or.inr (Or.inl ⟨x - q.1 - 1, by omega, by omega⟩)
      rcases kk with rfl | ⟨j', hj', rfl⟩ | rfl
      · exact ne104 hI.2.2.1.1 (by decide)
      · exact ne104 (m := 100) (by rw [(hI.2.2.1.2.1 j' hj').2]) (by decide)
      · exact ne104 L.1 (by decide)
  · rcases hb' with z | z
    · rw [z]; exact h6 j q hj hq2
    · have hI := h5 j hj
      rw [hq2] at hI
      obtain ⟨c, f, L, -⟩ := hI.2.2.2.2.1
      have lq : q.2.1 < sn s := h2.lt (by rw [L.2.2.1]; show (104 : Nat) ≠ 99; decide)
      omega
/-- a call on the component as a whole -/
def OpI (D : Nat → Prop) (s : St) {α : Type} (x : Option (α × St)) (r : α) (w' : WR) (ls' : List (List DC)) (im' : IM) : Prop := ∃ s' o' b', x = some (r, s') ∧ CI D s' w' ls' o' b' im' ∧ Tk s s' 75 700
theorem Sm.tk {s s' : St} (h : Sm s s') {k m : Nat} : Tk s s' k m := ⟨by rw [h.2.2.1.1]; exact Nat.le_refl _, by rw [h.2.2.1.1]; omega, by rw [h.2.2.1.2.1]; exact Nat.le_refl _, by rw [h.2.2.1.2.1]; omega, h.2.2.1.2.2.1, h.2.2.1.2.2.2⟩
theorem CI.op {D : Nat → Prop} {s : St} {w w' : WR} {ls : List (List DC)} {o : Option Nat} {b0 : Nat} {im : IM} (h : CI D s w ls o b0 im) {x : Option (Int32 × St)} {v : Int} (k : Op D s ls x v w') : OpI D s x (iI v) w' ls im := by
  obtain ⟨s', e, hC, hs⟩ := k
  exact ⟨s', o, b0, e, h.sm hC hs, hs.tk⟩
theorem CI.opl {D : Nat → Prop} {s : St} {w w' : WR} {ls : List (List DC)} {o : Option Nat} {b0 : Nat} {im : IM} (h : CI D s w ls o b0 im) {x : Option (Int64 × St)} {v : Int} (k : OpL D s ls x v w') : OpI D s x (lI v) w' ls im := by
  obtain ⟨s', e, hC, hs⟩ := k
  exact ⟨s', o, b0, e, h.sm hC hs, hs.tk⟩
theorem Gone.tk {s s' : St} {o o' : Option Nat} (h : Gone s s' o o') : Tk s s' 75 700 := ⟨h.2.1.1, h.2.1.2.1, h.2.1.2.2.1, by have := h.2.1.2.2.2; omega, h.1.1.1, h.1.1.2⟩
theorem CI.opa {D : Nat → Prop} {s : St} {w : WR} {ls : List (List DC)} {o : Option Nat} {b0 : Nat} {im : IM} (h : CI D s w ls o b0 im) {α : Type} {x : Option (α × St)} {r : α} (k : OpA D s ls o x r w) : OpI D s x r w ls im := by
  obtain ⟨s', o', e, hC, hM, hg⟩ := k
  exact ⟨s', o', b0, e, h.gone hC hM hg, hg.tk⟩
theorem x_back {D : Nat → Prop} {s : St} {w : WR} {ls : List (List DC)} {o : Option Nat} {b0 : Nat} {im : IM} (h : CI D s w ls o b0 im) (hW : Wf w ls) (hm1 : sn s + 2 ≤ smx s) (hm2 : ss s + 32 ≤ sms s) {k : Int} (hk : i32 k) : OpI D s (F_X0_back s (iI k)) (iI (backV im k)) (backW w im k) (backL ls im k) im := by
  unfold i32 at hk
  unfold F_X0_back backV backW backL
  rw [k_m1, k_m2, k_0, k_1, e_X0_in s (by omega) (by omega) (by omega), bnd_s]
  by_cases a1 : 0 ≤ k ∧ k ≤ 1
  · rw [if_neg (by rw [bZ_i0]; exact fun z => z a1), if_pos a1, if_pos a1, if_pos a1, inb_g (by omega), iI_nat (by omega), inb_g (by omega)]
    have h5 := h.2.2.2.2.1 k.toNat (by omega)
    cases e : im k.toNat with
    | none =>
      rw [e] at h5
      have h5 : sr s 12 k.toNat = none := h5
      rw [if_pos h5]
      exact h.op (Op.refuse h.1 (by omega)).bnd
    | some q =>
      obtain ⟨a, b, wi, li⟩ := q
      rw [e] at h5
      obtain ⟨s', b', e1, h', t'⟩ := e_X0_back_1 h hW (by omega) e hm1 hm2
      have h12 : sr s 12 k.toNat = some a := h5.1
      rw [if_neg (by rw [h12]; simp), h12, e1, bnd_s, gp_SkC h'.1.1]
      obtain ⟨s2, e2, c2, m2⟩ := (Op.settled h'.1 0).bnd
      exact ⟨s2, o, b', e2, h'.sm c2 m2, (t'.tr (m2.tk (k := 0) (m := 0))).le (by omega) (by omega)⟩
  · rw [if_pos (by rw [bZ_i0]; exact a1), if_neg a1, if_neg a1, if_neg a1]
    exact h.op (Op.refuse h.1 (by omega)).bnd
