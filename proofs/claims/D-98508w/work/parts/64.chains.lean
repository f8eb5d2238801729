set_option maxRecDepth 100000
/-! ===== texts: chains of sums ===== -/
abbrev RF : Type := Option ((Option Nat ⊕ Nat) × St)
noncomputable def opX (NEXT : St → Nat → RF) (k5 : St → Option Nat → Option Nat → RF) (s : St) (x0 : Option Nat) (x1 : Option Nat) : RF := drf x0 fun a1 => gd (isRd s a1) <| drf x0 fun a4 => gd (isRd s a4) <| drf (sr s a1 0) fun a7 => gd (isK s a7 102) <| gd (inb (si s a4 3) (sk s a7).2) <| nam ((((si s a7 (si s a4 3).toNatClampNeg)).toUInt32 % 65536).toInt32) fun y11 => drf x0 fun a13 => gd (isRd s a13) <| bnd (F_X6_next s a13) fun _ s17 => gd (okN s17 3) <| nam (newO s17 (11, 0) 3) fun s20 => drf x0 fun a22 => gd (isRd s20 a22) <| bnx (NEXT s20 a22) (fun b28 s26 => some (.inr b28, s26)) <| fun r25 s26 => bnd (F_X13_init s26 (sn s17) y11 x1 r25) fun _ s30 => k5 s30 x0 (some (sn s17))
def opc (g : Int) : Prop := g = 43 ∨ g = 45 ∨ g = 42 ∨ g = 47 ∨ g = 37
theorem chr_op {g : Int} (h : opc g) : ((iI g).toUInt32 % 65536).toInt32 = iI g ∧ fits .char (.int (iI g)) = true := by
  unfold opc at h
  rcases h with rfl | rfl | rfl | rfl | rfl <;> decide
theorem e_opX {R : Nat} {T : Nat → Int} {n m d : Nat} {NEXT : St → Nat → RF} {next : Nat → Nat → Nat → PR DS} (hN : ∀ s p l, Pre s R T n p l d m → SO R T n p l d m s (NEXT s R) (next d p l)) {k5 : St → Option Nat → Option Nat → RF} {s : St} {p l lo l0 a1 : Nat} {f : DS} (h : Pre s R T n p l d m) (hlt : p < n) (hc : opc (T p)) (hS : SumAt s lo (sn s) a1 (l - l0) f) (hok : dok f) (hR : R < lo) (hl0 : l0 < l) : match next d (nxt T n p) l with
    | .inl q => Fail R n p s (opX NEXT k5 s (some R) (some a1)) q
    | .inr (g, p', l') => ∃ s' a, opX NEXT k5 s (some R) (some a1) = k5 s' (some R) (some a) ∧ RdE s' R T n p' l' d m ∧ SumAt s' lo (sn s') a (l' - l0) (dTwo (T p) f g) ∧ dok (dTwo (T p) f g) ∧ PF R s s' (8 * (p' - p)) (500 * (p' - p)) ∧ (p < p' ∧ p' ≤ n) ∧ (l < l' ∧ l' ≤ 50) := by
  have h1 := h.1
  have hp := h1.pos
  have hRs := h.R
  have hnx := nxt_r (T := T) hp.1
  have hch := chr_op hc
  have tp := h1.T (k := p) (by omega)
  have hm := h.2.2.1
  obtain ⟨s1, e1, r1, x1⟩ := e_X6_next h1
  have n1 : sn s1 = sn s := x1.2.2.2.1.1
  have h2 : Pre s1 R T n (nxt T n p) l d m := h.nx r1 x1 hnx.1 h.2.2.2.1 h.2.2.2.2.1
  have k3 : (sk (newO s1 (11, 0) 3) (sn s1)).1 = 11 := by rw [nO_k, if_pos rfl]
  have F1 : PF R s1 (newO s1 (11, 0) 3) 1 3 := Fil.rf.pf h2.R
  have r2 : RdE (newO s1 (11, 0) 3) R T n (nxt T n p) l d m := r1.old Old.new h2.R (by have := h2.2.2.2.2.2; omega)
  have P02 : PF R s (newO s1 (11, 0) 3) 1 3 := ((x1.pf (k := 0) (m := 0)).tr F1).le (by omega) (by omega)
  have h3 : Pre (newO s1 (11, 0) 3) R T n (nxt T n p) l d m := h.pf r2 P02 hnx.1 hnx.2.1 (by have := hnx.2.2 hlt; omega) (by have := hnx.2.2 hlt; omega) h.2.2.2.1 h.2.2.2.2.1
  have hpp := hnx.2.2 hlt
  unfold Rm at hm
  have hsm := x1.2.2.2.1
  have hn := hN _ _ _ h3
  have eq : opX NEXT k5 s (some R) (some a1) = bnx (NEXT (newO s1 (11, 0) 3) R) (fun b28 s26 => some (.inr b28, s26)) (fun r25 s26 => bnd (F_X13_init s26 (sn s1) (iI (T p)) (some a1) r25) fun _ s30 => k5 s30 (some R) (some (sn s1))) := by
    unfold opX
    rw [drf_s, isRd_g h1.1, drf_s, isRd_g h1.1, h1.2.1, drf_s, isK_g (by rw [h1.2.2.1]), h1.2.2.1, h1.2.2.2.2.1.2.2.1, inb_g (by show 0 ≤ (p : Int) ∧ (p : Int) < (400 : Nat) ∧ _; omega), iI_nat (by omega), Int.toNat_natCast, tp.1, hch.1, nam_v, drf_s, isRd_g h1.1, e1, bnd_s, gd_ok (okN_t (by omega) (by omega)), nam_v, drf_s, isRd_g r2.1]
  rw [eq]
  cases en : next d (nxt T n p) l with
  | inl q =>
    rw [en] at hn
    obtain ⟨s2, b2, e2, f2, p2⟩ := hn
    show Fail R n p s _ q
    rw [e2, bnx_ir]
    exact ⟨s2, b2, rfl, f2, (P02.tr p2).le (by omega) (by omega)⟩
  | inr w =>
    obtain ⟨g, p', l'⟩ := w
    rw [en] at hn
    obtain ⟨s2, b, e2, r3, S2, ok2, P2, pp2, ll2⟩ := hn
    have n2 : sn (newO s1 (11, 0) 3) = sn s + 1 := by rw [nO_n, n1]
    have ks2 : (sk s2 (sn s1)).1 = 11 := by rw [(P2.1 (sn s1) (by rw [nO_n]; omega) (by have := h2.R; omega)).1]; exact k3
    have fl : Fil (sn s1) s2 (setR (setR (setI s2 (sn s1) 0 (iI (T p))) (sn s1) 1 (some a1)) (sn s1) 2 (some b)) := (Fil.I.tr Fil.R).tr Fil.R
    have P04 : PF R s s2 (1 + 8 * (p' - nxt T n p)) (3 + 500 * (p' - nxt T n p)) := P02.tr P2
    have P05 := P04.fil fl (by omega) hRs
    have hn2 : sn (newO s1 (11, 0) 3) ≤ sn s2 := P2.2.1.1
    have hlo := hS.1
    refine ⟨_, sn s1, ?_, r3.fil fl (by have := h2.R; omega) (by have := h2.2.2.2.2.2; omega), ⟨⟨by omega, ?_⟩, fun s5 hk5 hS5 => ?_⟩, dok_two, P05.le (by omega) (by omega), ⟨by omega, pp2.2⟩, by omega, ll2.2⟩
    · rw [e2, bnx_il]
      unfold F_X13_init F_X10_init
      rw [bnd_s, isK_g ks2, gd_ok hch.2, nam_v, isK_1, isK_g ks2, nam_v, isK_3, isK_1, isK_g ks2, nam_v, bnd_s]
    · show sn s1 < sn s2
      omega
    · have hin : ∀ x, lo ≤ x → x < sn s2 → same (setR (setR (setI s2 (sn s1) 0 (iI (T p))) (sn s1) 1 (some a1)) (sn s1) 2 (some b)) s5 x := fun x h1 h2 => hk5 x ⟨h1, h2⟩
      have SL : SumAt (setR (setR (setI s2 (sn s1) 0 (iI (T p))) (sn s1) 1 (some a1)) (sn s1) 2 (some b)) lo (sn s) a1 (l - l0) f := (hS.go (P04.kp hR (Nat.le_refl _))).go (fl.kp (by omega))
      have SRt : SumAt (setR (setR (setI s2 (sn s1) 0 (iI (T p))) (sn s1) 1 (some a1)) (sn s1) 2 (some b)) (sn s + 1) (sn s2) b (l' - l) g := by
        rw [n2] at S2
        exact S2.go (fl.kp (by omega))
      have eL := SL.2 s5 (fun x hx => hin x hx.1 (by omega)) hS5
      have eR := SRt.2 s5 (fun x hx => hin x (by omega) hx.2) hS5
      have hn0 := hin (sn s1) (by omega) (by omega)
      have hres := SumE.two (s := s5) (a := sn s1) (b := a1) (c := b) (d := l' - l0 - 1) (g := T p) hS5 (by rw [hn0.1]; exact ks2) (by rw [hn0.2.1]; show si (setI s2 (sn s1) 0 (iI (T p))) (sn s1) 0 = _; rw [si_set, if_pos rfl, if_pos rfl]) (by unfold opc at hc; exact hc) (by rw [hn0.2.2.2, sR_r, if_pos rfl, if_neg (by decide), sR_r, if_pos rfl, if_pos rfl]) (by rw [hn0.2.2.2, sR_r, if_pos rfl, if_pos rfl]) (eL.le (by omega)) (eR.le (by omega)) hok ok2
      exact hres.le (by omega)
/-- a chain: what a loop comes to -/
def LO (R : Nat) (T : Nat → Int) (n p l d m lo l0 : Nat) (s : St) (x : RF) : PR DS → Prop
  | .inl q => Fail R n p s x q
  | .inr (f, p', l') => ∃ s' a, x = some (.inl (some a), s') ∧ RdE s' R T n p' l' d m ∧ SumAt s' lo (sn s') a (l' - l0) f ∧ dok f ∧ PF R s s' (8 * (p' - p)) (500 * (p' - p)) ∧ (p ≤ p' ∧ p' ≤ n) ∧ (l ≤ l' ∧ l' ≤ 50)
theorem e_loopS {R : Nat} {T : Nat → Int} {n m d : Nat} {NEXT : St → Nat → RF} {next : Nat → Nat → Nat → PR DS} (hN : ∀ s p l, Pre s R T n p l d m → SO R T n p l d m s (NEXT s R) (next d p l)) {op : Nat → Prop} (hop : ∀ p, p ≤ n → op p → p < n ∧ opc (T p)) {G : Nat → St → Option Nat → Option Nat → RF} (hG : ∀ fu s p l a1, Pre s R T n p l d m → (op p → G (fu + 1) s (some R) (some a1) = opX NEXT (G fu) s (some R) (some a1)) ∧ (¬ op p → G (fu + 1) s (some R) (some a1) = some (.inl (some a1), s))) : ∀ (k p l lo l0 a1 : Nat) (f : DS) (s : St), Pre s R T n p l d m → SumAt s lo (sn s) a1 (l - l0) f → dok f → R < lo → l0 < l → n - p < k → ∀ fu, k ≤ fu → LO R T n p l d m lo l0 s (G fu s (some R) (some a1)) (loopS op T n next k f d p l) := by
  intro k
  induction k with
  | zero => intro p l lo l0 a1 f s _ _ _ _ _ hk; omega
  | succ k ih =>
    intro p l lo l0 a1 f s h hS hok hR hl0 hk fu hfu
    obtain ⟨fu, rfl⟩ : ∃ g, fu = g + 1 := ⟨fu - 1, by omega⟩
    obtain ⟨g1, g2⟩ := hG fu s p l a1 h
    rw [loopS]
    by_cases a : op p
    · have hp := h.1.pos
      have ho := hop p hp.1 a
      have hx := e_opX hN (k5 := G fu) h ho.1 ho.2 hS hok hR hl0
      have hnx := nxt_r (T := T) hp.1
      rw [if_pos a, g1 a]
      cases en : next d (nxt T n p) l with
      | inl q =>
        rw [en] at hx
        exact hx
      | inr w =>
        obtain ⟨g, p', l'⟩ := w
        rw [en] at hx
        obtain ⟨s2, a2, e2, r2, S2, ok2, P2, pp2, ll2⟩ := hx
        have h2 : Pre s2 R T n p' l' d m := h.pf r2 P2 (by omega) pp2.2 (Nat.le_refl _) (Nat.le_refl _) ll2.2 h.2.2.2.2.1
        rw [e2]
        have hI := ih p' l' lo l0 a2 (dTwo (T p) f g) s2 h2 S2 ok2 hR (by omega) (by omega) fu (by omega)
        show LO R T n p l d m lo l0 s _ (loopS op T n next k (dTwo (T p) f g) d p' l')
        cases el : loopS op T n next k (dTwo (T p) f g) d p' l' with
        | inl q =>
          rw [el] at hI
          exact Fail.go hI P2 (by omega) pp2.2 (Nat.le_refl _) (Nat.le_refl _)
        | inr w =>
          obtain ⟨f', p'', l''⟩ := w
          rw [el] at hI
          obtain ⟨s3, a3, e3, r3, S3, ok3, P3, pp3, ll3⟩ := hI
          exact ⟨s3, a3, e3, r3, S3, ok3, (P2.tr P3).le (by omega) (by omega), by omega, by omega⟩
    · rw [if_neg a, g2 a]
      exact ⟨s, a1, rfl, h.1, hS, hok, PF.rf, ⟨Nat.le_refl _, h.1.pos.1⟩, Nat.le_refl _, h.2.2.2.1⟩
/-- the first, then the loop -/
theorem e_chainS {R : Nat} {T : Nat → Int} {n m d : Nat} {NEXT : St → Nat → RF} {next : Nat → Nat → Nat → PR DS} (hN : ∀ s p l, Pre s R T n p l d m → SO R T n p l d m s (NEXT s R) (next d p l)) {op : Nat → Prop} (hop : ∀ p, p ≤ n → op p → p < n ∧ opc (T p)) {G : Nat → St → Option Nat → Option Nat → RF} (hG : ∀ fu s p l a1, Pre s R T n p l d m → (op p → G (fu + 1) s (some R) (some a1) = opX NEXT (G fu) s (some R) (some a1)) ∧ (¬ op p → G (fu + 1) s (some R) (some a1) = some (.inl (some a1), s))) : ∀ s p l, Pre s R T n p l d m → SO R T n p l d m s (bnx (NEXT s R) (fun b5 s3 => some (.inr b5, s3)) fun r2 s3 => G FU s3 (some R) r2) (chainS op T n next d p l) := by
  intro s p l h
  have hn := hN s p l h
  unfold chainS
  cases en : next d p l with
  | inl q =>
    rw [en] at hn
    obtain ⟨s2, b2, e2, f2, p2⟩ := hn
    show Fail R n p s _ q
    rw [e2, bnx_ir]
    exact ⟨s2, b2, rfl, f2, p2⟩
  | inr w =>
    obtain ⟨g, p', l'⟩ := w
    rw [en] at hn
    obtain ⟨s2, a2, e2, r2, S2, ok2, P2, pp2, ll2⟩ := hn
    have h2 : Pre s2 R T n p' l' d m := h.pf r2 P2 (by omega) pp2.2 (Nat.le_refl _) (Nat.le_refl _) ll2.2 h.2.2.2.2.1
    have hp := h.1.pos
    have hI := e_loopS hN hop hG 401 p' l' (sn s) l a2 g s2 h2 S2 ok2 h.R ll2.1 (by omega) FU (by unfold FU; omega)
    rw [e2, bnx_il]
    show SO R T n p l d m s _ (loopS op T n next 401 g d p' l')
    cases el : loopS op T n next 401 g d p' l' with
    | inl q =>
      rw [el] at hI
      exact Fail.go hI P2 (by omega) pp2.2 (Nat.le_refl _) (Nat.le_refl _)
    | inr w =>
      obtain ⟨f', p'', l''⟩ := w
      rw [el] at hI
      obtain ⟨s3, a3, e3, r3, S3, ok3, P3, pp3, ll3⟩ := hI
      exact ⟨s3, a3, e3, r3, S3, ok3, (P2.tr P3).le (by omega) (by omega), by omega, by omega⟩
theorem tok1 {T : Nat → Int} {n p i : Nat} {c : Int} (h : tokIs T n p (strB i)) (hi : strB i = [c]) (hp : p ≤ n) : p < n ∧ T p = c := by
  rw [hi] at h
  have h1 := h.1
  have h2 := h.2 0 (show 0 < 1 by decide)
  have ht := tkE_r (T := T) hp
  exact ⟨by simp at h1; omega, h2⟩
theorem mulOp_c {T : Nat → Int} {n p : Nat} (hp : p ≤ n) (h : mulOp T n p) : p < n ∧ opc (T p) := by
  unfold opc
  rcases h with h | h | h
  · have := tok1 h (c := 42) (by decide) hp
    exact ⟨this.1, by omega⟩
  · have := tok1 h (c := 47) (by decide) hp
    exact ⟨this.1, by omega⟩
  · have := tok1 h (c := 37) (by decide) hp
    exact ⟨this.1, by omega⟩
theorem addOp_c {T : Nat → Int} {n p : Nat} (hp : p ≤ n) (h : addOp T n p) : p < n ∧ opc (T p) := by
  unfold opc
  rcases h with h | h
  · have := tok1 h (c := 43) (by decide) hp
    exact ⟨this.1, by omega⟩
  · have := tok1 h (c := 45) (by decide) hp
    exact ⟨this.1, by omega⟩
theorem e_X6_term {recS : St → Nat → RF} {R : Nat} {T : Nat → Int} {n m : Nat} {V : VP} {rec : Nat → Nat → Nat → PR DS} {d : Nat}
    (hP : ∀ s p l, Pre s R T n p l d m → SO R T n p l d m s (F_X6_part recS s R) (partS T n V rec d p l)) : ∀ s p l, Pre s R T n p l d m → SO R T n p l d m s (F_X6_term recS s R) (termS T n V rec d p l) := by
  intro s p l h
  unfold F_X6_term termS
  rw [isRd_g h.1.1]
  refine e_chainS (NEXT := F_X6_part recS) hP (op := mulOp T n) (fun p hp => mulOp_c hp) (G := F_X6_term_5 recS) (fun fu s p l a1 h => ?_) s p l h
  have h1 := h.1
  have eq : F_X6_term_5 recS (fu + 1) s (some R) (some a1) = (drf (some R) fun a1' => gd (isRd s a1') <| bnd (F_X6_is s a1' (some 1000000013)) fun r4 s5 => if r4 = 0 then (drf (some R) fun a8 => gd (isRd s5 a8) <| bnd (F_X6_is s5 a8 (some 1000000014)) fun r11 s12 => if r11 = 0 then (drf (some R) fun a15 => gd (isRd s12 a15) <| bnd (F_X6_is s12 a15 (some 1000000015)) fun r18 s19 => if r18 = 0 then (some (.inl (some a1), s19)) else (opX (F_X6_part recS) (F_X6_term_5 recS fu) s19 (some R) (some a1))) else (opX (F_X6_part recS) (F_X6_term_5 recS fu) s12 (some R) (some a1))) else (opX (F_X6_part recS) (F_X6_term_5 recS fu) s5 (some R) (some a1))) := rfl
  rw [eq, drf_s, isRd_g h1.1, show (1000000013 : Nat) = 1000000000 + 13 from rfl, show (1000000014 : Nat) = 1000000000 + 14 from rfl, show (1000000015 : Nat) = 1000000000 + 15 from rfl, e_X6_is h1 (by decide), bnd_s, k_0]
  unfold mulOp
  by_cases b1 : tokIs T n p (strB 13)
  · rw [if_neg (by rw [bZ_i0]; exact fun z => z b1)]
    exact ⟨fun _ => rfl, fun z => absurd (Or.inl b1) z⟩
  · rw [if_pos (by rw [bZ_i0]; exact b1), drf_s, isRd_g h1.1, e_X6_is h1 (by decide), bnd_s]
    by_cases b2 : tokIs T n p (strB 14)
    · rw [if_neg (by rw [bZ_i0]; exact fun z => z b2)]
      exact ⟨fun _ => rfl, fun z => absurd (Or.inr (Or.inl b2)) z⟩
    · rw [if_pos (by rw [bZ_i0]; exact b2), drf_s, isRd_g h1.1, e_X6_is h1 (by decide), bnd_s]
      by_cases b3 : tokIs T n p (strB 15)
      · rw [if_neg (by rw [bZ_i0]; exact fun z => z b3)]
        exact ⟨fun _ => rfl, fun z => absurd (Or.inr (Or.inr b3)) z⟩
      · rw [if_pos (by rw [bZ_i0]; exact b3)]
        exact ⟨fun z => z.elim (fun y => absurd y b1) (fun y => y.elim (fun x => absurd x b2) (fun x => absurd x b3)), fun _ => rfl⟩
theorem e_X6_sum {recS : St → Nat → RF} {R : Nat} {T : Nat → Int} {n m : Nat} {V : VP} {rec : Nat → Nat → Nat → PR DS} {d : Nat}
    (hP : ∀ s p l, Pre s R T n p l d m → SO R T n p l d m s (F_X6_term recS s R) (termS T n V rec d p l)) : ∀ s p l, Pre s R T n p l d m → SO R T n p l d m s (F_X6_sum recS s R) (sumS T n V rec d p l) := by
  intro s p l h
  unfold F_X6_sum sumS
  rw [isRd_g h.1.1]
  refine e_chainS (NEXT := F_X6_term recS) hP (op := addOp T n) (fun p hp => addOp_c hp) (G := F_X6_sum_5 recS) (fun fu s p l a1 h => ?_) s p l h
  have h1 := h.1
  have eq : F_X6_sum_5 recS (fu + 1) s (some R) (some a1) = (drf (some R) fun a1' => gd (isRd s a1') <| bnd (F_X6_is s a1' (some 1000000016)) fun r4 s5 => if r4 = 0 then (drf (some R) fun a8 => gd (isRd s5 a8) <| bnd (F_X6_is s5 a8 (some 1000000017)) fun r11 s12 => if r11 = 0 then (some (.inl (some a1), s12)) else (opX (F_X6_term recS) (F_X6_sum_5 recS fu) s12 (some R) (some a1))) else (opX (F_X6_term recS) (F_X6_sum_5 recS fu) s5 (some R) (some a1))) := rfl
  rw [eq, drf_s, isRd_g h1.1, show (1000000016 : Nat) = 1000000000 + 16 from rfl, show (1000000017 : Nat) = 1000000000 + 17 from rfl, e_X6_is h1 (by decide), bnd_s, k_0]
  unfold addOp
  by_cases b1 : tokIs T n p (strB 16)
  · rw [if_neg (by rw [bZ_i0]; exact fun z => z b1)]
    exact ⟨fun _ => rfl, fun z => absurd (Or.inl b1) z⟩
  · rw [if_pos (by rw [bZ_i0]; exact b1), drf_s, isRd_g h1.1, e_X6_is h1 (by decide), bnd_s]
    by_cases b2 : tokIs T n p (strB 17)
    · rw [if_neg (by rw [bZ_i0]; exact fun z => z b2)]
      exact ⟨fun _ => rfl, fun z => absurd (Or.inr b2) z⟩
    · rw [if_pos (by rw [bZ_i0]; exact b2)]
      exact ⟨fun z => z.elim (fun y => absurd y b1) (fun y => absurd y b2), fun _ => rfl⟩
/-- sums, by depth -/
theorem e_sumR {R : Nat} {T : Nat → Int} {n m : Nat} {V : VP} (hV : ∀ d s p l, Pre s R T n p l d m → VO R T n p l d m s (F_valueD s R) (V p l)) : ∀ (k d : Nat), 9 ≤ k + d → ∀ s p l, Pre s R T n p l d m → SO R T n p l d m s (F_sumR k s R) (sumP T n V k d p l) := by
  intro k
  induction k with
  | zero => intro d hd s p l h; have := h.2.2.2.2.1; omega
  | succ k ih =>
    intro d hd
    exact e_X6_sum (e_X6_term (e_X6_part (fun h8 => ih (d + 1) (by omega)) (hV d)))
