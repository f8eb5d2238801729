set_option maxRecDepth 100000
/-! ===== the component: an image is taken ===== -/
def imUp (im : IM) (j : Nat) (q : Nat × Nat × WR × List (List DC)) : IM := fun i => if i = j then some q else im i
/-- the image j is taken into the state at a -/
theorem e_X0_image_1 {D : Nat → Prop} {s : St} {w : WR} {ls : List (List DC)} {o : Option Nat} {b0 : Nat} {im : IM} (h1 : C0 D s w ls) (hW : Wf w ls) (h2 : Mem D s o) (h3 : Tl s 10 ls.length) (h4 : sr s 10 1 = some b0 ∧ ¬ D b0) {j i : Nat} (hj : j < 2) (hi : i < 2) (hij : i ≠ j) (h5 : ImE D s i (im i)) (h6 : ∀ q, im i = some q → q.2.1 ≠ b0) (h8 : ∀ q, im i = some q → ∀ A, o = some A → ∀ x, (q.1 ≤ x ∧ x < q.1 + 9) ∨ x = q.2.1 → ¬ (A ≤ x ∧ x < A + 75)) {a b c n : Nat} {f : Nat → Nat} (g1 : 31 ≤ a ∧ a + 9 ≤ sn s ∧ 31 ≤ b) (g2 : SkT s a (fun j => a + 1 + j) (a + 8)) (g3 : LstE s (a + 8) b c n f) (g4 : Tl s (a + 8) n) (g5 : n ≤ 12) (g6 : ∀ x, a ≤ x → x < a + 9 → ¬ D x) (g7 : ¬ D b) (g8 : b ≠ b0) (g9 : ∀ q, im i = some q → q.1 ≠ a ∧ q.2.1 ≠ b) (g10 : ∀ A, o = some A → ∀ x, (a ≤ x ∧ x < a + 9) ∨ x = b → ¬ (A ≤ x ∧ x < A + 75)) (g11 : sr s 12 j = some a) (hm1 : sn s + 2 ≤ smx s) (hm2 : ss s + 32 ≤ sms s) : ∃ s' b', F_X1_takes s a (some 2) = some ((), s') ∧ CI D s' w ls o b0 (imUp im j (a, b', w, ls)) ∧ Tk s s' 2 32 := by
  obtain ⟨b0', c1, f1, L1, hE1⟩ := h1.2.2.1
  have : b0' = b0 := by
    have e := L1.2.1
    rw [h4.1] at e
    exact (Option.some.inj e).symm
  subst this
  have kb0 : (sk s b0').1 = 104 := by rw [L1.2.2.1]
  have kb : (sk s b).1 = 104 := by rw [g3.2.2.1]
  have hb0 := h1.b0 kb0
  have n31 := h2.2.1
  have hx : ∀ x, Tset a (fun j => a + 1 + j) (a + 8) b x → ¬ Tset 2 (fun j => 3 + j) 10 b0' x := by
    intro x hy hx
    have big : a ≤ x ∧ x < a + 9 ∨ x = b := by
      rcases hy with y | ⟨j', hj', y⟩ | y | y
      · omega
      · dsimp only at y; omega
      · omega
      · omega
    rcases hx with z | ⟨j, hj, z⟩ | z | z
    · omega
    · dsimp only at z; omega
    · omega
    · rw [z] at hy
      rcases hy with y | ⟨j', hj', y⟩ | y | y
      · rw [y, g2.1] at kb0; exact absurd kb0 (by decide)
      · rw [y, (g2.2.1 j' hj').2] at kb0; exact absurd kb0 (show (100 : Nat) ≠ 104 by decide)
      · rw [y, g3.1] at kb0; exact absurd kb0 (by decide)
      · exact g8 y.symm
  obtain ⟨s', b', c', e, S', R', L', T', O', K', r', t', v', hb'⟩ := e_X1_takes g2 h1.1.skt h1.2.1.rg g3 g4 L1 h3 h2.1 hx (fun i j _ _ z => by omega) (by have := hW.frc.2; omega) g5 (laws_e h1.1 h2.1 hE1) hm1 hm2
  -- what is not touched
  have nT : ∀ x, (x < a ∨ a + 9 ≤ x) → x ≠ b → ¬ Tset a (fun j => a + 1 + j) (a + 8) b x := fun x hx hb z => by
    rcases z with y | ⟨j', hj', y⟩ | y | y
    · omega
    · dsimp only at y; omega
    · omega
    · exact hb y
  have sm31 : ∀ x, x < 31 → same s s' x := fun x hx => O' x (by omega) (nT x (by omega) (by omega))
  have smD : Kp D s s' := fun x hx => O' x (h2.2.2.1 x hx) (nT x (by
    by_cases h : x < a ∨ a + 9 ≤ x
    · exact h
    · exact absurd hx (g6 x (by omega) (by omega))) (fun z => g7 (by rw [← z]; exact hx)))
  have lb0 : b0' < sn s := h2.lt (by rw [kb0]; decide)
  have lb : b < sn s := h2.lt (by rw [kb]; decide)
  have kblk : ∀ x, a ≤ x → x < a + 9 → (sk s x).1 ≠ 104 ∧ (sk s x).1 ≠ 4 := fun x x1 x2 => by
    by_cases e1 : x = a
    · rw [e1, g2.1]; decide
    · by_cases e2 : x = a + 8
      · rw [e2, g3.1]; decide
      · have : sk s x = (100, rl (x - a - 1)) := by
          have := (g2.2.1 (x - a - 1) (by omega)).2
          dsimp only at this
          rw [show a + 1 + (x - a - 1) = x by omega] at this
          exact this
        rw [this]
        exact ⟨show (100 : Nat) ≠ 104 by decide, show (100 : Nat) ≠ 4 by decide⟩
  have smb0 : same s s' b0' := O' b0' lb0 (nT b0' (by
    by_cases h : b0' < a ∨ a + 9 ≤ b0'
    · exact h
    · exact absurd kb0 (kblk b0' (by omega) (by omega)).1) g8.symm)
  have hlt : ∀ q ∈ rC, q.1 < 31 := by decide
  have hC' : C0 D s' w ls := ⟨⟨fun x hx => by rw [(sm31 x hx).1]; exact h1.1.1 x hx, fun q hq => by rw [(sm31 q.1 (hlt q hq)).2.2.2]; exact h1.1.2 q hq⟩, fun r k k0 hr => by
    have := relC_30 hr
    rw [(sm31 r (by omega)).2.1]
    exact h1.2.1 r k k0 hr, ⟨b0', c1, f1, L1.go (sm31 10 (by omega)) smb0, fun i x hx => (hE1 i x hx).go smD⟩, h1.2.2.2⟩
  have hFA : FA s' o := h2.2.2.2.1.go t'.1 (sm31 26 (by omega)).2.2.2 fun A hA x hx1 hx2 => by
    have := h2.2.2.2.1
    rw [hA] at this
    have hAA := this.1
    exact ⟨K' x (by omega), fun k104 k18 => r' x (by omega) (fun z => g10 A hA x (Or.inl (by omega)) ⟨hx1, hx2⟩) (fun z => k104 (by rw [z]; exact kb))⟩
  have hb2 : 31 ≤ b' := by
    rcases hb' with z | z <;> omega
  have hDb' : ¬ D b' := by
    rcases hb' with z | z
    · rw [z]; exact g7
    · exact fun y => by have := h2.2.2.1 b' y; omega
  have hI' : ImE D s' j (some (a, b', w, ls)) := by
    refine ⟨by rw [(sm31 12 (by omega)).2.2.2]; exact g11, ⟨g1.1, by have := t'.1; show a + 9 ≤ sn s'; omega, hb2⟩, S', R', ⟨c', f1, L', fun i x hx => (hE1 i x hx).go smD⟩, T', g6, hDb', hW⟩
  have hup : ∀ x, imUp im j (a, b', w, ls) x = if x = j then some (a, b', w, ls) else im x := fun _ => rfl
  have hoth : ∀ q, im i = some q → q.2.1 ≠ b' ∧ ImE D s' i (some q) := fun q hq => by
    rw [hq] at h5
    have g9' := g9 q hq
    have h5' := h5.2
    obtain ⟨z1, ⟨z2, z3, z4⟩, z5, ⟨c3, f3, L3, z6⟩, z7⟩ := h5'
    have kq : (sk s q.2.1).1 = 104 := by rw [L3.2.2.1]
    have lq : q.2.1 < sn s := h2.lt (by rw [kq]; decide)
    have kq1 : ∀ x, q.1 ≤ x → x < q.1 + 9 → x = q.1 ∨ (∃ j', j' < 7 ∧ x = q.1 + 1 + j') ∨ x = q.1 + 8 := fun x x1 x2 => by
      by_cases e1 : x = q.1
      · exact Or.inl e1
      · by_cases e2 : x = q.1 + 8
        · exact Or.inr (Or.inr e2)
        · exact Or.inr (Or.inl ⟨x - q.1 - 1, by omega, by omega⟩)
    have kqk : ∀ x, q.1 ≤ x → x < q.1 + 9 → (sk s x).1 ≠ 104 ∧ (x ≠ q.1 → (sk s x).1 ≠ 1) := fun x x1 x2 => by
      rcases kq1 x x1 x2 with rfl | ⟨j', hj', rfl⟩ | rfl
      · rw [z2]
        exact ⟨by decide, fun z => absurd rfl z⟩
      · rw [(z3 j' hj').2]
        exact ⟨show (100 : Nat) ≠ 104 by decide, fun _ => show (100 : Nat) ≠ 1 by decide⟩
      · rw [L3.1]
        exact ⟨by decide, fun _ => by decide⟩
    have kaa : ∀ x, a ≤ x → x < a + 9 → x ≠ a → (sk s x).1 ≠ 1 := fun x x1 x2 xn => by
      by_cases e2 : x = a + 8
      · rw [e2, g3.1]; decide
      · have : sk s x = (100, rl (x - a - 1)) := by
          have := (g2.2.1 (x - a - 1) (by omega)).2
          dsimp only at this
          rw [show a + 1 + (x - a - 1) = x by omega] at this
          exact this
        rw [this]
        show (100 : Nat) ≠ 1
        decide
    have dis : q.1 + 9 ≤ a ∨ a + 9 ≤ q.1 := by
      by_cases e1 : q.1 + 9 ≤ a
      · exact Or.inl e1
      · by_cases e2 : a + 9 ≤ q.1
        · exact Or.inr e2
        · exfalso
          by_cases e3 : q.1 ≤ a
          · exact (kqk a e3 (by omega)).2 (fun z => g9'.1 z.symm) g2.1
          · exact kaa q.1 (by omega) (by omega) g9'.1 z2
    have smq : ∀ x, q.1 ≤ x → x < q.1 + 9 → same s s' x := fun x x1 x2 => O' x (by omega) (nT x (by omega) (fun z => (kqk x x1 x2).1 (by rw [z]; exact kb)))
    have smqb : same s s' q.2.1 := O' _ lq (nT _ (by
      by_cases h : q.2.1 < a ∨ a + 9 ≤ q.2.1
      · exact h
      · exact absurd kq (kblk _ (by omega) (by omega)).1) g9'.2)
    refine ⟨?_, by rw [(sm31 12 (by omega)).2.2.2]; exact h5.1, h5.2.go t'.1 smq smqb smD⟩
    rcases hb' with z | z
    · rw [z]; exact g9'.2
    · omega
  have hjc : ∀ x, x < 2 → x = j ∨ x = i := fun x hx => by omega
  refine ⟨s', b', e, ⟨hC', ⟨v', by have := t'.1; omega, fun x hx => by have := t'.1; have := h2.2.2.1 x hx; omega, hFA, h2.2.2.2.2⟩, h3.go h4.1 (sm31 10 (by omega)).2.2.2 smb0.1 smb0.2.2.2, ⟨by rw [(sm31 10 (by omega)).2.2.2]; exact h4.1, h4.2⟩, fun x hx => ?_, fun x q hx hq => ?_, fun q r hq hr => ?_, fun x q hx hq => ?_⟩, t'⟩
  · rw [hup]
    rcases hjc x hx with rfl | rfl
    · rw [if_pos rfl]
      exact hI'
    · rw [if_neg hij]
      cases ei : im x with
      | none =>
        rw [ei] at h5
        show sr s' 12 x = none
        rw [(sm31 12 (by omega)).2.2.2]
        exact h5
      | some q => exact (hoth q ei).2
  · rw [hup] at hq
    rcases hjc x hx with rfl | rfl
    · rw [if_pos rfl] at hq
      cases hq
      show b' ≠ b0'
      rcases hb' with z | z
      · rw [z]; exact g8
      · omega
    · rw [if_neg hij] at hq
      exact h6 q hq
  · rw [hup] at hq hr
    have h01 : (j = 0 ∧ i = 1) ∨ (j = 1 ∧ i = 0) := by omega
    rcases h01 with ⟨rfl, rfl⟩ | ⟨rfl, rfl⟩
    · rw [if_pos rfl] at hq
      rw [if_neg (by decide)] at hr
      cases hq
      exact ⟨fun z => (g9 r hr).1 z.symm, fun z => (hoth r hr).1 z.symm⟩
    · rw [if_neg (by decide)] at hq
      rw [if_pos rfl] at hr
      cases hr
      exact ⟨(g9 q hq).1, (hoth q hq).1⟩
  · rw [hup] at hq
    intro A hA x' hx'
    rcases hjc x hx with rfl | rfl
    · rw [if_pos rfl] at hq
      cases hq
      rcases hx' with y | y
      · exact g10 A hA x' (Or.inl y)
      · rcases hb' with z | z
        · exact g10 A hA x' (Or.inr (by rw [y]; exact z))
        · have := h2.2.2.2.1
          rw [hA] at this
          have := this.1
          have y : x' = b' := y
          omega
    · rw [if_neg hij] at hq
      exact h8 q hq A hA x' hx'
noncomputable def imageV (k : Int) : Int := if 0 ≤ k ∧ k ≤ 1 then 0 else -1
noncomputable def imageW (w : WR) (k : Int) : WR := if 0 ≤ k ∧ k ≤ 1 then wup w 0 0 0 else refW w (-1)
/-- images, but for where they lie -/
abbrev IV : Type := Nat → Option (WR × List (List DC))
def imV (im : IM) : IV := fun j => (im j).map fun q => q.2.2
def ivUp (v : IV) (j : Nat) (q : WR × List (List DC)) : IV := fun i => if i = j then some q else v i
theorem imV_up {im : IM} {j a b : Nat} {w : WR} {ls : List (List DC)} : imV (imUp im j (a, b, w, ls)) = ivUp (imV im) j (w, ls) := by
  funext i
  unfold imV imUp ivUp
  split <;> rfl
def imageI (v : IV) (w : WR) (ls : List (List DC)) (k : Int) : IV := if 0 ≤ k ∧ k ≤ 1 then ivUp v k.toNat (w, ls) else v
theorem x_image {D : Nat → Prop} {s : St} {w : WR} {ls : List (List DC)} {o : Option Nat} {b0 : Nat} {im : IM} (h : CI D s w ls o b0 im) (hW : Wf w ls) (hm1 : sn s + 12 ≤ smx s) (hm2 : ss s + 95 ≤ sms s) {k : Int} (hk : i32 k) : ∃ im', imV im' = imageI (imV im) w ls k ∧ OpI D s (F_X0_image s (iI k)) (iI (imageV k)) (imageW w k) ls im' := by
  unfold i32 at hk
  unfold F_X0_image imageV imageW imageI
  rw [k_m1, k_0, k_1, e_X0_in s (by omega) (by omega) (by omega), bnd_s]
  by_cases a1 : 0 ≤ k ∧ k ≤ 1
  · rw [if_pos a1, if_neg (by rw [bZ_i0]; exact fun z => z a1), if_pos a1, if_pos a1, inb_g (by omega), iI_nat (by omega)]
    obtain ⟨h1, h2, h3, h4, h5, h6, h7, h8⟩ := h
    obtain ⟨j, hj⟩ : ∃ j, j = k.toNat := ⟨_, rfl⟩
    rw [← hj]
    have hj2 : j < 2 := by omega
    obtain ⟨i, hi, hij⟩ : ∃ i, i < 2 ∧ i ≠ j := ⟨1 - j, by omega, by omega⟩
    have hfin : ∀ s1, Tk s s1 10 63 → ∀ a, sr s1 12 j = some a → (sk s1 a).1 = 1 → (∃ s' b', F_X1_takes s1 a (some 2) = some ((), s') ∧ CI D s' w ls o b0 (imUp im j (a, b', w, ls)) ∧ Tk s1 s' 2 32) → ∃ im', imV im' = ivUp (imV im) j (w, ls) ∧ OpI D s (F_X0_image_37 s1 (iI k)) (iI 0) (wup w 0 0 0) ls im' := fun s1 t1 a ha ka ⟨s', b', e, hc, t2⟩ => by
      refine ⟨imUp im j (a, b', w, ls), imV_up, ?_⟩
      unfold F_X0_image_37
      rw [inb_g (by omega), iI_nat (by omega), ← hj, ha, drf_s, isK_g ka, e, bnd_s, gp_SkC hc.1.1, k_0]
      obtain ⟨s2, e2, c2, m2⟩ := (Op.done hc.1 0).bnd
      exact ⟨s2, o, b0, e2, hc.sm c2 m2, ((t1.tr t2).tr (m2.tk (k := 0) (m := 0))).le (by omega) (by omega)⟩
    have hI := h5 j hj2
    cases ej : im j with
    | none =>
      rw [ej] at hI
      have hI : sr s 12 j = none := hI
      have n31 := h2.2.1
      have PI0 : PI s (newO s (1, 0) 11) (sn s) 0 11 := ⟨rfl, rfl, ⟨rfl, rfl⟩, h2.1.new, Old.new, rfl, by rw [nO_k, if_pos rfl], fun j hj => by omega⟩
      obtain ⟨s1, e1, S1, L1, T1, v1, O1, m1⟩ := e_X1_init PI0 (by omega) (by omega)
      have c0 : C0 D (newO s (1, 0) 11) w ls := h1.new h2.1 n31 h2.2.2.1
      have c1 : C0 D s1 w ls := h1.old h2.1 n31 h2.2.2.1 O1
      have c2 : C0 D (setR s1 12 j (some (sn s))) w ls := c1.rset (Or.inr (Or.inl rfl)) (c1.ok31 (by decide)) (by rw [c1.1.1 12 (by decide)]; decide)
      have kb0 : (sk s b0).1 = 104 := by
        obtain ⟨b, c, f, L, -⟩ := h1.2.2.1
        have := L.2.1
        rw [h4.1] at this
        cases this
        rw [L.2.2.1]
      have lb0 : b0 < sn s := h2.lt (by rw [kb0]; decide)
      have hb0 := h1.b0 kb0
      have sm2 : ∀ x, x < sn s → x ≠ 12 → same s (setR s1 12 j (some (sn s))) x := fun x hx h12 => by
        have q := O1 x hx
        refine ⟨q.1, q.2.1, q.2.2.1, ?_⟩
        funext y
        rw [sR_r, if_neg h12, q.2.2.2]
      have smD : Kp D s (setR s1 12 j (some (sn s))) := fun x hx => sm2 x (h2.2.2.1 x hx) (by have := h1.2.2.2 x hx; omega)
      have hA75 : ∀ A, o = some A → A + 75 ≤ sn s := fun A hA => by
        have := h2.2.2.2.1
        rw [hA] at this
        exact this.1.2
      have M2 : Mem D (setR s1 12 j (some (sn s))) o := by
        refine ⟨v1, by show 31 ≤ sn s1; omega, fun x hx => by show x < sn s1; have := h2.2.2.1 x hx; omega, ?_, h2.2.2.2.2⟩
        refine h2.2.2.2.1.go (by show sn s ≤ sn s1; omega) (sm2 26 (by omega) (by decide)).2.2.2 fun A hA x hx1 hx2 => ?_
        have hAA := hA75 A hA
        have := h2.2.2.2.1
        rw [hA] at this
        have q := sm2 x (by omega) (by have := this.1.1; omega)
        exact ⟨q.1, fun _ _ => q.2.2.2⟩
      have hImi : ImE D (setR s1 12 j (some (sn s))) i (im i) := by
        have := h5 i hi
        cases ei : im i with
        | none =>
          rw [ei] at this
          show sr (setR s1 12 j (some (sn s))) 12 i = none
          rw [sR_r, if_pos rfl, if_neg hij, (O1 12 (by omega)).2.2.2]
          exact this
        | some q =>
          rw [ei] at this
          obtain ⟨c, f, L, -⟩ := this.2.2.2.2.1
          have lq : q.2.1 < sn s := h2.lt (by rw [L.2.2.1]; show (104 : Nat) ≠ 99; decide)
          have hq1 := this.2.1
          refine ⟨?_, this.2.go (by show sn s ≤ sn s1; omega) (fun x x1 x2 => sm2 x (by omega) (by omega)) (sm2 _ lq (by omega)) smD⟩
          rw [sR_r, if_pos rfl, if_neg hij, (O1 12 (by omega)).2.2.2]
          exact this.1
      have ka : (sk (setR s1 12 j (some (sn s))) (sn s)).1 = 1 := S1.1
      have hk1 := e_X0_image_1 (s := setR s1 12 j (some (sn s))) (a := sn s) (b := sn s + 9) (c := 2) (n := 0) (f := fun _ => 0) c2 hW M2 (h3.go h4.1 (sm2 10 (by omega) (by decide)).2.2.2 (sm2 b0 lb0 (by omega)).1 (sm2 b0 lb0 (by omega)).2.2.2) ⟨by rw [(sm2 10 (by omega) (by decide)).2.2.2]; exact h4.1, h4.2⟩ hj2 hi hij hImi (fun q hq => h6 i q hi hq) (fun q hq => h8 i q hi hq) ⟨n31, by show sn s + 9 ≤ sn s1; omega, by omega⟩ ⟨S1.1, fun j' h7 => ⟨by rw [sR_r, if_neg (by omega)]; exact (S1.2.1 j' h7).1, (S1.2.1 j' h7).2⟩, by rw [sR_r, if_neg (by omega)]; exact S1.2.2⟩ (by
          obtain ⟨p1, p2, p3, p4, p5, p6, p7⟩ := L1 (fun _ => 0)
          exact ⟨p1, by rw [sR_r, if_neg (by omega)]; exact p2, p3, p4, p5, p6, fun i hi => by omega⟩) (fun b' hb' => by
          rw [sR_r, if_neg (by omega)] at hb'
          have := T1 b' hb'
          refine ⟨this.1, fun y y1 y2 => ?_⟩
          have e := (L1 (fun _ => 0)).2.1
          rw [hb'] at e
          cases e
          rw [sR_r, if_neg (by omega)]
          exact this.2 y y1 y2) (by omega) (fun x x1 x2 hx => by have := h2.2.2.1 x hx; omega) (fun hx => by have := h2.2.2.1 _ hx; omega) (by omega) (fun q hq => by
          have := h5 i hi
          rw [hq] at this
          obtain ⟨c, f, L, -⟩ := this.2.2.2.2.1
          have lq : q.2.1 < sn s := h2.lt (by rw [L.2.2.1]; show (104 : Nat) ≠ 99; decide)
          have hq1 := this.2.1
          omega) (fun A hA x hx => by have := hA75 A hA; omega) (by rw [sR_r, if_pos rfl, if_pos rfl]) (by show sn s1 + 2 ≤ smx s1; omega) (by show ss s1 + 32 ≤ sms s1; omega)
      have t1 : Tk s (setR s1 12 j (some (sn s))) 10 63 := ⟨by show sn s ≤ sn s1; omega, by show sn s1 ≤ _; omega, by show ss s ≤ ss s1; omega, by show ss s1 ≤ _; omega, m1.2.2.1, m1.2.2.2⟩
      have hf := hfin _ t1 (sn s) (by rw [sR_r, if_pos rfl, if_pos rfl]) ka hk1
      rw [if_pos hI, gd_ok (okN_t (by omega) (by omega)), nam_v, gp_SkC c0.1, e1, bnd_s, gp_SkC c1.1, inb_g (by omega), isK_g S1.1, nam_v, gp_SkC c2.1]
      exact hf
    | some q =>
      obtain ⟨a, b, wi, li⟩ := q
      rw [ej] at hI
      obtain ⟨r12, ⟨z1, z2, z3, ⟨c, f, L, z4⟩, z5, z6, z7, z8⟩⟩ := hI
      have r12 : sr s 12 j = some a := r12
      rw [if_neg (by rw [r12]; simp)]
      refine hfin s Tk.rf a r12 z2.1 (e_X0_image_1 h1 hW h2 h3 h4 hj2 hi hij (h5 i hi) (fun q hq => h6 i q hi hq) (fun q hq => h8 i q hi hq) z1 z2 L z5 (by have := z8.frc.2; omega) z6 z7 (h6 j _ hj2 ej) (fun q hq => ?_) (fun A hA x hx => h8 j _ hj2 ej A hA x hx) r12 (by omega) (by omega))
      have h01 : (j = 0 ∧ i = 1) ∨ (j = 1 ∧ i = 0) := by omega
      rcases h01 with ⟨rfl, rfl⟩ | ⟨rfl, rfl⟩
      · have := h7 _ _ ej hq
        exact ⟨fun z => this.1 z.symm, fun z => this.2 z.symm⟩
      · exact h7 _ _ hq ej
  · rw [if_neg a1, if_pos (by rw [bZ_i0]; exact a1), if_neg a1, if_neg a1]
    exact ⟨im, rfl, h.op (Op.refuse h.1 (by omega)).bnd⟩
