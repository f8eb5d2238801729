set_option maxRecDepth 100000
/-! ===== texts: not, and, or ===== -/
theorem tokW {T : Nat → Int} {n p i c : Nat} (h : tokIs T n p (strB i)) (hi : (strB i).length = c) (hc : 0 < c) (hp : p ≤ n) : p + c ≤ n ∧ p + c ≤ nxt T n p := by
  have ht := tkE_r (T := T) hp
  have h1 := h.1
  rw [hi] at h1
  have h2 := rn_r (T := T) (n := n) (lo := 32) (hi := 32) (n - tkE T n p) (tkE T n p)
  unfold nxt skp
  omega
def bN : Bool → Nat
  | true => 1
  | false => 0
theorem bN_r {b : Bool} : bN b ≤ 1 := by cases b <;> decide
/-- with some cells more -/
def TOx (e R : Nat) (T : Nat → Int) (n p l d m D : Nat) (s : St) (x : RF) : PR DT → Prop
  | .inl q => Fail R n p s x q
  | .inr (t, p', l') => ∃ s' a, x = some (.inl (some a), s') ∧ RdE s' R T n p' l' d m ∧ TestAt s' (sn s) (sn s') a D t ∧ PF R s s' (8 * (p' - p) + e) (500 * (p' - p) + e) ∧ (p < p' ∧ p' ≤ n) ∧ (l < l' ∧ l' ≤ 50)
theorem e_X6_plain_2 {recT : St → Nat → RF} {R : Nat} {T : Nat → Int} {n m d D : Nat} {next : Nat → Nat → Nat → PR DT} (hP : ∀ s p l, Pre s R T n p l d m → TO R T n p l d m D s (F_X6_positive recT s R) (next d p l)) : ∀ (k p l : Nat) (neg : Bool) (s : St), Pre s R T n p l d m → n - p < k → ∀ fu, k ≤ fu → TOx (bN neg) R T n p l d m (D + 1) s (F_X6_plain_2 recT fu s (some R) (iI (if neg then 1 else 0))) (notL T n next k neg d p l) := by
  intro k
  induction k with
  | zero => intro p l neg s _ hk; omega
  | succ k ih =>
    intro p l neg s h hk fu hfu
    obtain ⟨fu, rfl⟩ : ∃ g, fu = g + 1 := ⟨fu - 1, by omega⟩
    have h1 := h.1
    have hp := h1.pos
    have hnx := nxt_r (T := T) hp.1
    obtain ⟨s1, e1, r1, x1⟩ := e_X6_takes h1 (i := 18) (by decide)
    unfold tkP at r1
    rw [F_X6_plain_2, notL]
    show TOx (bN neg) R T n p l d m (D + 1) s (drf (some R) _) _
    rw [drf_s, isRd_g h1.1, show (1000000018 : Nat) = 1000000000 + 18 from rfl, e1, bnd_s, k_0, k_1]
    by_cases a : tokIs T n p (strB 18)
    · have hlt := tokW a (c := 3) (by decide) (by decide) hp.1
      rw [if_pos a] at r1
      have h2 : Pre s1 R T n (nxt T n p) l d m := h.nx r1 x1 hnx.1 h.2.2.2.1 h.2.2.2.2.1
      have hi := ih (nxt T n p) l (!neg) s1 h2 (by omega) fu (by omega)
      rw [if_neg (by rw [bZ_i0]; exact fun z => z a), if_pos a]
      have fin : TOx (bN neg) R T n p l d m (D + 1) s (F_X6_plain_2 recT fu s1 (some R) (iI (if (!neg) then 1 else 0))) (notL T n next k (!neg) d (nxt T n p) l) := by
        cases en : notL T n next k (!neg) d (nxt T n p) l with
        | inl q =>
          rw [en] at hi
          exact Fail.go hi (x1.pf (k := 0) (m := 0)) hnx.1 hnx.2.1 (by omega) (by omega)
        | inr w =>
          obtain ⟨t, p', l'⟩ := w
          rw [en] at hi
          obtain ⟨s2, a2, e2, r2, S2, P2, pp2, ll2⟩ := hi
          have n1 : sn s1 = sn s := x1.2.2.2.1.1
          exact ⟨s2, a2, e2, r2, S2.le (by omega) (Nat.le_refl _) (Nat.le_refl _), ((x1.pf (k := 0) (m := 0)).tr P2).le (by have := bN_r (b := !neg); omega) (by have := bN_r (b := !neg); omega), by omega, ll2⟩
      cases neg
      · rw [if_pos (by decide)]
        exact fin
      · rw [if_neg (by decide)]
        exact fin
    · rw [if_neg a] at r1
      have h2 : Pre s1 R T n p l d m := h.nx r1 x1 (Nat.le_refl _) h.2.2.2.1 h.2.2.2.2.1
      have n1 : sn s1 = sn s := x1.2.2.2.1.1
      have hi := hP s1 p l h2
      rw [if_pos (by rw [bZ_i0]; exact a), if_neg a, drf_s, isRd_g r1.1]
      cases en : next d p l with
      | inl q =>
        rw [en] at hi
        obtain ⟨s2, b2, e2, f2, p2⟩ := hi
        rw [e2, bnx_ir]
        exact ⟨s2, b2, rfl, f2, ((x1.pf (k := 0) (m := 0)).tr p2).le (by omega) (by omega)⟩
      | inr w =>
        obtain ⟨t, p', l'⟩ := w
        rw [en] at hi
        obtain ⟨s2, a2, e2, r2, S2, P2, pp2, ll2⟩ := hi
        have P02 : PF R s s2 (8 * (p' - p)) (500 * (p' - p)) := ((x1.pf (k := 0) (m := 0)).tr P2).le (by omega) (by omega)
        rw [e2, bnx_il]
        show TOx (bN neg) R T n p l d m (D + 1) s _ (.inr (if neg then dNot t else t, p', l'))
        cases neg
        · rw [if_pos (by decide)]
          exact ⟨s2, a2, rfl, r2, S2.le (by omega) (Nat.le_refl _) (Nat.le_succ _), P02, pp2, ll2⟩
        · have h3 : Pre s2 R T n p' l' d m := h2.pf r2 P2 (by omega) pp2.2 (Nat.le_refl _) (Nat.le_refl _) ll2.2 h.2.2.2.2.1
          have hm3 := h3.2.2.1
          unfold Rm at hm3
          have k3 : (sk (newO s2 (13, 0) 1) (sn s2)).1 = 13 := by rw [nO_k, if_pos rfl]
          have fl : Fil (sn s2) (newO s2 (13, 0) 1) (setR (newO s2 (13, 0) 1) (sn s2) 0 (some a2)) := Fil.R
          have F1 : PF R s2 (setR (newO s2 (13, 0) 1) (sn s2) 0 (some a2)) 1 1 := fl.pf h3.R
          have r3 : RdE (newO s2 (13, 0) 1) R T n p' l' d m := r2.old Old.new h3.R (by have := h3.2.2.2.2.2; omega)
          have hn12 : sn s1 ≤ sn s2 := P2.2.1.1
          unfold F_X16_init F_X14_init
          rw [if_neg (by decide), gd_ok (okN_t (by omega) (by omega)), nam_v, bnd_s, isK_g k3, nam_v, bnd_s]
          have P3 := (P02.tr F1)
          refine ⟨_, sn s2, rfl, r3.fil fl (by have := h3.R; omega) (by have := h3.2.2.2.2.2; omega), ⟨⟨by omega, Nat.lt_succ_self _⟩, isTs_t (Or.inr (Or.inl k3)), fun s5 hk5 hS5 => ?_⟩, P3, pp2, ll2⟩
          have hn0 := hk5 (sn s2) ⟨by omega, Nat.lt_succ_self _⟩
          have St := ((S2.go (PF.kp (Fil.rf.pf (kd := (13, 0)) (n := 1) h3.R) (by have := h2.R; omega) (Nat.le_refl _))).go (fl.kp (by omega))).2.2 s5 (fun x hx => hk5 x ⟨by omega, Nat.lt_succ_of_lt hx.2⟩) hS5
          exact TestE.no (s := s5) (a := sn s2) (b := a2) (by rw [hn0.1]; exact k3) (by rw [hn0.2.2.2, sR_r, if_pos rfl, if_pos rfl]) St
theorem e_X6_plain {recT : St → Nat → RF} {R : Nat} {T : Nat → Int} {n m d D : Nat} {next : Nat → Nat → Nat → PR DT} (hP : ∀ s p l, Pre s R T n p l d m → TO R T n p l d m D s (F_X6_positive recT s R) (next d p l)) : ∀ s p l, Pre s R T n p l d m → TO R T n p l d m (D + 1) s (F_X6_plain recT s R) (plainT T n next d p l) := by
  intro s p l h
  have := e_X6_plain_2 hP 401 p l false s h (by have := h.1.pos; omega) FU (by unfold FU; omega)
  unfold F_X6_plain plainT
  rw [k_0]
  exact this
/-- a thing of a list that grows: its cells are not the list's -/
def El (s : St) (lo A l b dep a : Nat) (t : DT) : Prop := ∃ lo1 hi1, (lo ≤ lo1 ∧ hi1 ≤ sn s) ∧ TestAt s lo1 hi1 a dep t ∧ ¬ (lo1 ≤ A ∧ A < hi1) ∧ ¬ (lo1 ≤ l ∧ l < hi1) ∧ ¬ (lo1 ≤ b ∧ b < hi1)
theorem El.go {s s' : St} {lo A l b dep a : Nat} {t : DT} (h : El s lo A l b dep a t) (ho : OldX (two l b) s s') (hn : sn s ≤ sn s') : El s' lo A l b dep a t := by
  obtain ⟨lo1, hi1, h1, h2, h3, h4, h5⟩ := h
  exact ⟨lo1, hi1, ⟨h1.1, by omega⟩, h2.go (fun x hx => ho x (by omega) (fun z => z.elim (fun y => h4 (by rw [← y]; exact hx)) (fun y => h5 (by rw [← y]; exact hx)))), h3, h4, h5⟩
/-- several tests that are being read: the object A, its list l, the list's array b -/
def Sev (s : St) (lo A l b c k dep : Nat) (all : Bool) (f : Nat → Nat) (t : Nat → DT) : Prop :=
  (sk s A).1 = 14 ∧ si s A 0 = iI (if all then 1 else 0) ∧ sr s A 1 = some l ∧ LstE s l b c k f ∧ Tl s l k ∧ (∀ i, i < k → El s lo A l b dep (f i) (t i)) ∧ (lo ≤ A ∧ A < sn s) ∧ (lo ≤ l ∧ l < sn s) ∧ (lo ≤ b ∧ b < sn s) ∧ (A ≠ l ∧ A ≠ b ∧ l ≠ b)
theorem Sev.fin {s : St} {lo A l b c k dep : Nat} {all : Bool} {f : Nat → Nat} {t : Nat → DT} (h : Sev s lo A l b c k dep all f t) : TestAt s lo (sn s) A (dep + 1) (dSev all ((List.range k).map t)) := by
  obtain ⟨h1, h2, h3, h4, h5, h6, h7, h8, h9, h10⟩ := h
  refine ⟨h7, isTs_t (Or.inr (Or.inr h1)), fun s2 hk hS => ?_⟩
  have hA := hk A h7
  refine TestE.sev (by rw [hA.1]; exact h1) (by rw [hA.2.1]; exact h2) (by rw [hA.2.2.2]; exact h3) (h4.go (hk l h8) (hk b h9)) fun i hi => ?_
  obtain ⟨lo1, hi1, g1, g2, -⟩ := h6 i hi
  have hk1 : Kp (fun x => lo1 ≤ x ∧ x < hi1) s s2 := fun x hx => hk x ⟨by omega, by omega⟩
  exact ⟨by rw [isTs_c (hk1 _ g2.1).1]; exact g2.2.1, g2.2.2 s2 hk1 hS⟩
/-- other cells change -/
theorem Sev.pf {R : Nat} {s s' : St} {lo A l b c k dep q r : Nat} {all : Bool} {f : Nat → Nat} {t : Nat → DT} (h : Sev s lo A l b c k dep all f t) (g : PF R s s' q r) (hR : R < lo) : Sev s' lo A l b c k dep all f t := by
  obtain ⟨h1, h2, h3, h4, h5, h6, h7, h8, h9, h10⟩ := h
  have hn := g.2.1.1
  have sm : ∀ x, lo ≤ x → x < sn s → same s s' x := fun x h1 h2 => g.1 x h2 (by omega)
  have hA := sm A h7.1 h7.2
  have hl := sm l h8.1 h8.2
  have hb := sm b h9.1 h9.2
  refine ⟨by rw [hA.1]; exact h1, by rw [hA.2.1]; exact h2, by rw [hA.2.2.2]; exact h3, h4.go hl hb, h5.go h4.2.1 hl.2.2.2 hb.1 hb.2.2.2, fun i hi => ?_, ⟨h7.1, by omega⟩, ⟨h8.1, by omega⟩, ⟨h9.1, by omega⟩, h10⟩
  obtain ⟨lo1, hi1, g1, g2, g3⟩ := h6 i hi
  exact ⟨lo1, hi1, ⟨g1.1, by omega⟩, g2.go (fun x hx => sm x (by omega) (by omega)), g3⟩
def tadd (t : Nat → DT) (k : Nat) (x : DT) : Nat → DT := fun i => if i = k then x else t i
theorem map_tadd {t : Nat → DT} {k : Nat} {x : DT} : (List.range (k + 1)).map (tadd t k x) = (List.range k).map t ++ [x] := by
  rw [List.range_succ, List.map_append]
  congr 1
  · refine List.map_congr_left fun i hi => ?_
    have := List.mem_range.mp hi
    exact if_neg (by omega)
  · exact congrArg (fun z => [z]) (if_pos rfl)
/-- one test more -/
theorem e_sev_add {R : Nat} {s0 s : St} {lo A l b c k dep q r x lo1 hi1 : Nat} {all : Bool} {f : Nat → Nat} {t : Nat → DT} {y : DT} (h : Sev s lo A l b c k dep all f t) (hv : Vd s) (hk : k ≤ 200) (hx : TestAt s lo1 hi1 x dep y) (hlo : lo ≤ lo1) (hhi : hi1 ≤ sn s) (hA : (A < lo1 ∧ l < lo1 ∧ b < lo1) ∨ (hi1 ≤ A ∧ hi1 ≤ l ∧ hi1 ≤ b)) (hR : R < lo) (g : PF R s0 s q r) (h0 : sn s0 ≤ lo) (hm1 : sn s < smx s) (hm2 : ss s + 400 ≤ sms s) : ∃ s' b' c', F_J2_add s l (some x) = some (iI 1, s') ∧ Sev s' lo A l b' c' (k + 1) dep all (ladd f k x) (tadd t k y) ∧ PF R s0 s' (q + 1) (r + 400) ∧ (∀ z, z < sn s → z ≠ l → z ≠ b → same s s' z) ∧ sn s ≤ sn s' := by
  obtain ⟨h1, h2, h3, h4, h5, h6, h7, h8, h9, h10⟩ := h
  have kx : (sk s x).1 < 19 := isTs_19 hx.2.1
  obtain ⟨s', b', c', e, L', T', O', K', tk', v', hb', -, -, -⟩ := e_J2_add h4 h5 hv h10.2.2 hk (fun i hi => by
    obtain ⟨lo2, hi2, -, g2, -⟩ := h6 i hi
    exact isTs_19 g2.2.1) (fun i hi => by
    obtain ⟨lo2, hi2, g1, g2, -⟩ := h6 i hi
    have := g2.1
    omega) kx hm1 hm2
  have hn := tk'.1
  have o2 : ∀ z, z < sn s → z ≠ l → z ≠ b → same s s' z := fun z h1 h2 h3 => O' z h1 (fun y => y.elim h2 h3)
  have hA' := o2 A h7.2 h10.1 h10.2.1
  have hbb : lo ≤ b' ∧ b' < sn s' ∧ A ≠ b' ∧ l ≠ b' := by
    have lb' : b' < sn s' := v'.lt (by rw [L'.2.2.1]; show (104 : Nat) ≠ 99; decide)
    rcases hb' with z | z
    · rw [z] at lb' ⊢; exact ⟨h9.1, lb', h10.2.1, h10.2.2⟩
    · rw [z] at lb' ⊢; exact ⟨by omega, lb', by omega, by omega⟩
  refine ⟨s', b', c', e, ⟨by rw [hA'.1]; exact h1, by rw [hA'.2.1]; exact h2, by rw [hA'.2.2.2]; exact h3, L', T', fun i hi => ?_, ⟨h7.1, by omega⟩, ⟨h8.1, by omega⟩, ⟨hbb.1, hbb.2.1⟩, ⟨h10.1, hbb.2.2.1, hbb.2.2.2⟩⟩, ⟨fun z hz hS => ?_, ?_, fun _ => v', ?_, ?_⟩, o2, hn⟩
  · unfold ladd tadd
    by_cases ei : i = k
    · rw [if_pos ei, if_pos ei]
      refine ⟨lo1, hi1, ⟨hlo, by omega⟩, hx.go (fun z hz => o2 z (by omega) (by omega) (by omega)), by omega, by omega, ?_⟩
      rcases hb' with z | z <;> omega
    · rw [if_neg ei, if_neg ei]
      obtain ⟨lo2, hi2, g1, g2, g3, g4, g5⟩ := (h6 i (by omega)).go O' hn
      obtain ⟨lo3, hi3, q1, q2, q3, q4, q5⟩ := h6 i (by omega)
      refine ⟨lo3, hi3, ⟨q1.1, by omega⟩, q2.go (fun z hz => o2 z (by omega) (fun y => q4 (by rw [← y]; exact hz)) (fun y => q5 (by rw [← y]; exact hz))), q3, q4, ?_⟩
      rcases hb' with z | z
      · rw [z]; exact q5
      · omega
  · have hz2 : z < sn s := by have := g.2.1.1; omega
    exact (g.1 z hz hS).tr (o2 z hz2 (by omega) (by omega))
  · exact g.2.1.tr tk'
  · have hR2 : R < sn s := by omega
    rw [(o2 R hR2 (by omega) (by omega)).1]
    exact g.2.2.2.1
  · have hR2 : R < sn s := by omega
    rw [(o2 R hR2 (by omega) (by omega)).2.2.2]
    exact g.2.2.2.2
theorem RdE.same {s s' : St} {R : Nat} {T : Nat → Int} {n p l d m : Nat} (h : RdE s R T n p l d m) (e : same s s' R) (e19 : same s s' 19) : RdE s' R T n p l d m := by
  obtain ⟨p1, p2, p3, p4, ⟨p5, p6, p7, p8, p9, p10⟩, p11, p12⟩ := h
  refine ⟨?_, by rw [e.2.2.2]; exact p2, by rw [e19.1]; exact p3, fun k hk => by rw [e19.2.1]; exact p4 k hk, by rw [e.2.1]; exact ⟨p5, p6, p7, p8, p9, p10⟩, p11, p12⟩
  unfold isRd isK at p1 ⊢
  rw [e.1]
  exact p1
theorem e_sevL {R : Nat} {T : Nat → Int} {n m d D i : Nat} {all : Bool} {NEXT : St → Nat → RF} {next : Nat → Nat → Nat → PR DT} (hN : ∀ s p l, Pre s R T n p l d m → TO R T n p l d m D s (NEXT s R) (next d p l)) (hi : i < 45) {len : Nat} (hlen : (strB i).length = len) (h2len : 2 ≤ len) {LOOP : Nat → St → Option Nat → Option Nat → RF} (hL : ∀ fu s A, LOOP (fu + 1) s (some R) (some A) = (drf (some R) fun a1 => gd (isRd s a1) <| bnd (F_X6_takes s a1 (some (1000000000 + i))) fun r4 s5 => if r4 = 0 then (some (.inl (some A), s5)) else (drf (some A) fun a8 => gd (isK s5 a8 14) <| drf (some R) fun a11 => gd (isRd s5 a11) <| bnx (NEXT s5 a11) (fun b17 s15 => some (.inr b17, s15)) <| fun r14 s15 => drf (sr s5 a8 1) fun a18 => gd (isK s15 a18 18) <| bnd (F_J2_add s15 a18 r14) fun _ s22 => LOOP fu s22 (some R) (some A))))
    {s0 : St} {p0 l0 : Nat} (h0 : Pre s0 R T n p0 l0 d m) : ∀ (k p l K A lst b c q r : Nat) (f : Nat → Nat) (t : Nat → DT) (s : St), RdE s R T n p l d m → Sev s (sn s0) A lst b c K D all f t → PF R s0 s q r → ((q ≤ 8 * (p - p0) ∧ r ≤ 500 * (p - p0)) ∨ (tokIs T n p (strB i) ∧ q ≤ 8 * (p - p0) + 5 ∧ r ≤ 500 * (p - p0) + 420)) → p0 < p → (l0 < l ∧ l ≤ 50) → 2 * K ≤ p + 2 → n - p < k → ∀ fu, k ≤ fu → match sevL T n i all next k ((List.range K).map t) d p l with
      | .inl q => Fail R n p0 s0 (LOOP fu s (some R) (some A)) q
      | .inr (t', p', l') => ∃ s' a, LOOP fu s (some R) (some A) = some (.inl (some a), s') ∧ RdE s' R T n p' l' d m ∧ TestAt s' (sn s0) (sn s') a (D + 1) t' ∧ PF R s0 s' (8 * (p' - p0)) (500 * (p' - p0)) ∧ (p0 < p' ∧ p' ≤ n) ∧ (l0 < l' ∧ l' ≤ 50) := by
  intro k
  induction k with
  | zero => intro p l K A lst b c q r f t s _ _ _ _ _ _ _ hk; omega
  | succ k ih =>
    intro p l K A lst b c q r f t s h hS hP hq hp0 hl hK hk fu hfu
    obtain ⟨fu, rfl⟩ : ∃ g, fu = g + 1 := ⟨fu - 1, by omega⟩
    have hR := h0.R
    have hp := h.pos
    have hnx := nxt_r (T := T) hp.1
    obtain ⟨s1, e1, r1, x1⟩ := e_X6_takes h hi
    unfold tkP at r1
    rw [hL, sevL, drf_s, isRd_g h.1, e1, bnd_s, k_0]
    by_cases a : tokIs T n p (strB i)
    · have hw := tokW a hlen (by omega) hp.1
      rw [if_pos a] at r1
      have n1 : sn s1 = sn s := x1.2.2.2.1.1
      have P1 : PF R s0 s1 q r := (hP.tr (x1.pf (k := 0) (m := 0))).le (by omega) (by omega)
      have hq5 : q ≤ 8 * (p - p0) + 5 ∧ r ≤ 500 * (p - p0) + 420 := by
        rcases hq with z | z <;> omega
      have h1 : Pre s1 R T n (nxt T n p) l d m := h0.pf r1 P1 (by omega) hnx.2.1 (by omega) (by omega) hl.2 h0.2.2.2.2.1
      have S1 := hS.pf (x1.pf (k := 0) (m := 0)) hR
      have hn := hN s1 _ _ h1
      rw [if_pos a, if_neg (by rw [bZ_i0]; exact fun z => z a), drf_s, isK_g S1.1, drf_s, isRd_g r1.1, S1.2.2.1]
      cases en : next d (nxt T n p) l with
      | inl z =>
        rw [en] at hn
        obtain ⟨s2, b2, e2, f2, g2⟩ := hn
        rw [e2, bnx_ir]
        exact ⟨s2, b2, rfl, f2, (P1.tr g2).le (by omega) (by omega)⟩
      | inr w =>
        obtain ⟨y, p2, l2⟩ := w
        rw [en] at hn
        obtain ⟨s2, x, e2, r2, X2, P2, pp2, ll2⟩ := hn
        have h2 : Pre s2 R T n p2 l2 d m := h1.pf r2 P2 (by omega) pp2.2 (Nat.le_refl _) (Nat.le_refl _) ll2.2 h0.2.2.2.2.1
        have S2 := S1.pf P2 hR
        have hm2 := h2.2.2.1
        unfold Rm at hm2
        have hn01 := P1.2.1.1
        obtain ⟨s3, b3, c3, e3, S3, P3, o3, n3⟩ := e_sev_add S2 h2.2.1 (by omega) X2 hn01 (Nat.le_refl _) (Or.inl ⟨S1.2.2.2.2.2.2.1.2, S1.2.2.2.2.2.2.2.1.2, S1.2.2.2.2.2.2.2.2.1.2⟩) hR (P1.tr P2) (Nat.le_refl _) (by omega) (by omega)
        have n2 := P2.2.1.1
        have sR : same s2 s3 R := o3 R (by omega) (by have := hS.2.2.2.2.2.2.2.1; omega) (by have := hS.2.2.2.2.2.2.2.2.1; omega)
        have s19 : same s2 s3 19 := o3 19 (by have := h0.2.2.2.2.2; omega) (by have := hS.2.2.2.2.2.2.2.1; have := h0.2.2.2.2.2; omega) (by have := hS.2.2.2.2.2.2.2.2.1; have := h0.2.2.2.2.2; omega)
        have hI := ih p2 l2 (K + 1) A lst b3 c3 _ _ (ladd f K x) (tadd t K y) s3 (r2.same sR s19) S3 P3 (Or.inl ⟨by omega, by omega⟩) (by omega) (by omega) (by omega) (by omega) fu (by omega)
        rw [e2, bnx_il, drf_s, isK_g S2.2.2.2.1.1, e3, bnd_s]
        rw [map_tadd] at hI
        exact hI
    · rw [if_neg a] at r1
      have hq0 : q ≤ 8 * (p - p0) ∧ r ≤ 500 * (p - p0) := hq.resolve_right (fun z => a z.1)
      rw [if_neg a, if_pos (by rw [bZ_i0]; exact a)]
      have P1 : PF R s0 s1 q r := (hP.tr (x1.pf (k := 0) (m := 0))).le (by omega) (by omega)
      exact ⟨s1, A, rfl, r1, (hS.pf (x1.pf (k := 0) (m := 0)) hR).fin, P1.le hq0.1 hq0.2, ⟨hp0, hp.1⟩, hl⟩
/-- several tests begin -/
theorem e_X17_init {R : Nat} {s : St} {lo D : Nat} {all : Bool} (hv : Vd s) (hR : R < lo) (hlo : lo ≤ sn s) (h1 : sn s + 4 ≤ smx s) (h2 : ss s + 10 ≤ sms s) {f : Nat → Nat} {t : Nat → DT} {KK : St → Nat → RF} : ∃ s', (gd (okN s 2) <| nam (newO s (14, 0) 2) fun s12 => bnd (F_X17_init s12 (sn s) (iI (if all then 1 else 0))) fun _ s15 => gd (isK s15 (sn s) 14) <| drf (sr s15 (sn s) 1) fun a18 => gd (isK s15 a18 18) <| KK s15 a18) = KK s' (sn s + 1) ∧ Sev s' lo (sn s) (sn s + 1) (sn s + 2) 2 0 D all f t ∧ PF R s s' 3 7 ∧ Old s s' := by
  obtain ⟨s1, hs1⟩ : ∃ s1, s1 = newO s (14, 0) 2 := ⟨_, rfl⟩
  obtain ⟨s2, hs2⟩ : ∃ s2, s2 = newO s1 (18, 0) 3 := ⟨_, rfl⟩
  have n1 : sn s1 = sn s + 1 := by rw [hs1, nO_n]
  have n2 : sn s2 = sn s + 2 := by rw [hs2, nO_n, n1]
  have o1 : Old s s1 := by rw [hs1]; exact Old.new
  have o2 : Old s1 s2 := by rw [hs2]; exact Old.new
  have k1 : sk s1 (sn s) = (14, 0) := by rw [hs1, nO_k, if_pos rfl]
  have k2 : sk s2 (sn s + 1) = (18, 0) := by rw [hs2, nO_k, if_pos n1.symm]
  have k2A : sk s2 (sn s) = (14, 0) := by rw [(o2 (sn s) (by omega)).1]; exact k1
  have i2l : si s2 (sn s + 1) 2 = 0 := by rw [hs2, nO_i, if_pos n1.symm]
  have m1 : ss s1 = ss s + 2 ∧ smx s1 = smx s ∧ sms s1 = sms s := by rw [hs1]; exact ⟨rfl, rfl, rfl⟩
  have m2 : ss s2 = ss s + 5 ∧ smx s2 = smx s ∧ sms s2 = sms s := by rw [hs2, nO_s]; exact ⟨by omega, by show smx s1 = _; omega, by show sms s1 = _; omega⟩
  have eJ := e_J2_init (s := s2) (l := sn s + 1) (by rw [k2]) (by omega) (by omega) (by omega)
  obtain ⟨s3, hs3⟩ : ∃ s3, s3 = setR (newO (setI s2 (sn s + 1) 0 0) (104, 2) 2) (sn s + 1) 1 (some (sn s2)) := ⟨_, rfl⟩
  have v2 : Vd s2 := by rw [hs2, hs1]; exact hv.new.new
  have n3' : sn (setI s2 (sn s + 1) 0 0) = sn s + 2 := n2
  have k3 : ∀ x, sk s3 x = if x = sn s + 2 then (104, 2) else sk s2 x := fun x => by rw [hs3, sR_k, nO_k, n3']; rfl
  have i3 : ∀ x j, si s3 x j = if x = sn s + 2 then 0 else if x = sn s + 1 ∧ j = 0 then 0 else si s2 x j := fun x j => by
    rw [hs3]
    show si (newO (setI s2 (sn s + 1) 0 0) (104, 2) 2) x j = _
    rw [nO_i, n3']
    by_cases e : x = sn s + 2
    · rw [if_pos e, if_pos e]
    · rw [if_neg e, if_neg e, si_set]
      by_cases e2 : x = sn s + 1
      · rw [if_pos e2]
        by_cases e3 : j = 0
        · rw [if_pos e3, if_pos ⟨e2, e3⟩]
        · rw [if_neg e3, if_neg (fun z => e3 z.2)]
      · rw [if_neg e2, if_neg (fun z => e2 z.1)]
  have r3 : ∀ x j, sr s3 x j = if x = sn s + 1 ∧ j = 1 then some (sn s + 2) else if x = sn s + 2 then none else sr s2 x j := fun x j => by
    rw [hs3, sR_r]
    by_cases e : x = sn s + 1
    · rw [if_pos e]
      by_cases e2 : j = 1
      · rw [if_pos e2, if_pos ⟨e, e2⟩, n2]
      · rw [if_neg e2, if_neg (fun z => e2 z.2), nO_r, n3', if_neg (by omega), if_neg (by omega)]
        rfl
    · rw [if_neg e, if_neg (fun z => e z.1), nO_r, n3']
      by_cases e3 : x = sn s + 2
      · rw [if_pos e3, if_pos e3]
      · rw [if_neg e3, if_neg e3]
        rfl
  have l3 : ∀ x, x < sn s → sl s3 x = sl s2 x := fun x hx => by
    rw [hs3]
    show sl (newO (setI s2 (sn s + 1) 0 0) (104, 2) 2) x = _
    rw [nO_l, n3', if_neg (by omega)]
    rfl
  have n3 : sn s3 = sn s + 3 ∧ ss s3 = ss s + 7 ∧ smx s3 = smx s ∧ sms s3 = sms s := by
    rw [hs3]
    exact ⟨by show sn s2 + 1 = _; omega, by show ss s2 + 2 = _; omega, m2.2.1, m2.2.2⟩
  have v3 : Vd s3 := by
    rw [hs3]
    exact Vd.new (s := setI s2 (sn s + 1) 0 0) v2
  obtain ⟨s4, hs4⟩ : ∃ s4, s4 = setI (setR s3 (sn s) 1 (some (sn s + 1))) (sn s) 0 (iI (if all then 1 else 0)) := ⟨_, rfl⟩
  have f4 : Fil (sn s) s3 s4 := by rw [hs4]; exact Fil.R.tr Fil.I
  have kA : (sk s3 (sn s)).1 = 14 := by rw [k3, if_neg (by omega), k2A]
  have r4 : sr s4 (sn s) 1 = some (sn s + 1) := by
    rw [hs4]
    show sr (setR s3 (sn s) 1 (some (sn s + 1))) (sn s) 1 = _
    rw [sR_r, if_pos rfl, if_pos rfl]
  have k4l : (sk s4 (sn s + 1)).1 = 18 := by rw [f4.1, k3, if_neg (by omega), k2]
  have e4 := f4.2.2.2 (sn s + 1) (by omega)
  have e5 := f4.2.2.2 (sn s + 2) (by omega)
  have hold : Old s s4 := fun x hx => by
    have q := (o1 x hx).1
    have g4 := f4.2.2.2 x (by omega)
    refine ⟨by rw [f4.1, k3, if_neg (by omega), (o2 x (by omega)).1, q], ?_, by rw [f4.2.1, l3 x hx, (o2 x (by omega)).2.2.1, (o1 x hx).2.2.1], ?_⟩
    · rw [g4.1, ← (o1 x hx).2.1, ← (o2 x (by omega)).2.1]
      funext j
      rw [i3, if_neg (by omega), if_neg (by omega)]
    · rw [g4.2, ← (o1 x hx).2.2.2, ← (o2 x (by omega)).2.2.2]
      funext j
      rw [r3, if_neg (by omega), if_neg (by omega)]
  refine ⟨s4, ?_, ⟨by rw [f4.1]; exact kA, by rw [hs4, si_set, if_pos rfl, if_pos rfl], r4, ⟨k4l, by rw [e4.2, r3, if_pos ⟨rfl, rfl⟩], by rw [f4.1, k3, if_pos rfl], by omega, by omega, by rw [e4.1, i3, if_neg (by omega), if_neg (by omega), i2l]; rfl, fun i hi => by omega⟩, fun b hb => ?_, fun i hi => by omega, ⟨hlo, by rw [f4.2.2.1.1, n3.1]; omega⟩, ⟨by omega, by rw [f4.2.2.1.1, n3.1]; omega⟩, ⟨by omega, by rw [f4.2.2.1.1, n3.1]; omega⟩, by omega⟩, ⟨hold.x, ⟨by rw [f4.2.2.1.1]; omega, by rw [f4.2.2.1.1]; omega, by rw [f4.2.2.1.2.1]; omega, by rw [f4.2.2.1.2.1]; omega, by rw [f4.2.2.1.2.2.1]; exact n3.2.2.1, by rw [f4.2.2.1.2.2.2]; exact n3.2.2.2⟩, fun _ => f4.vd v3, (hold R (by omega)).1, (hold R (by omega)).2.2.2⟩, hold⟩
  · unfold F_X17_init F_X14_init
    have hfit : fits .boolean (.int (iI (if all then 1 else 0))) = true := fits_z (by cases all <;> simp)
    rw [gd_ok (okN_t (by omega) (by omega)), nam_v, ← hs1, bnd_s, gd_ok (okN_t (by omega) (by omega)), nam_v, ← hs2, n1, eJ, bnd_s, ← hs3, isK_g kA, nam_v, isK_3, isK_g kA, gd_ok hfit, nam_v, bnd_s, ← hs4, isK_g (by rw [f4.1]; exact kA), r4, drf_s, isK_g k4l]
  · rw [e4.2, r3, if_pos ⟨rfl, rfl⟩] at hb
    cases hb
    rw [f4.1, k3, if_pos rfl]
    refine ⟨by decide, fun i _ _ => ?_⟩
    rw [e5.2, r3, if_neg (by omega), if_pos rfl]
/-- several, joined -/
theorem e_sevT {R : Nat} {T : Nat → Int} {n m d D i : Nat} {all : Bool} {NEXT : St → Nat → RF} {next : Nat → Nat → Nat → PR DT} (hN : ∀ s p l, Pre s R T n p l d m → TO R T n p l d m D s (NEXT s R) (next d p l)) (hi : i < 45) {len : Nat} (hlen : (strB i).length = len) (h2len : 2 ≤ len) {LOOP : Nat → St → Option Nat → Option Nat → RF} (hL : ∀ fu s A, LOOP (fu + 1) s (some R) (some A) = (drf (some R) fun a1 => gd (isRd s a1) <| bnd (F_X6_takes s a1 (some (1000000000 + i))) fun r4 s5 => if r4 = 0 then (some (.inl (some A), s5)) else (drf (some A) fun a8 => gd (isK s5 a8 14) <| drf (some R) fun a11 => gd (isRd s5 a11) <| bnx (NEXT s5 a11) (fun b17 s15 => some (.inr b17, s15)) <| fun r14 s15 => drf (sr s5 a8 1) fun a18 => gd (isK s15 a18 18) <| bnd (F_J2_add s15 a18 r14) fun _ s22 => LOOP fu s22 (some R) (some A)))) : ∀ s p l, Pre s R T n p l d m → TO R T n p l d m (D + 1) s (bnx (NEXT s R) (fun b5 s3 => some (.inr b5, s3)) <| fun r2 s3 => gd (isRd s3 R) <| bnd (F_X6_is s3 R (some (1000000000 + i))) fun r7 s8 => if r7 = 0 then (some (.inl r2, s8)) else (gd (okN s8 2) <| nam (newO s8 (14, 0) 2) fun s12 => bnd (F_X17_init s12 (sn s8) (iI (if all then 1 else 0))) fun _ s15 => gd (isK s15 (sn s8) 14) <| drf (sr s15 (sn s8) 1) fun a18 => gd (isK s15 a18 18) <| bnd (F_J2_add s15 a18 r2) fun _ s22 => LOOP FU s22 (some R) (some (sn s8)))) (sevT T n i all next d p l) := by
  intro s p l h
  have hn := hN s p l h
  have hR := h.R
  unfold sevT
  cases en : next d p l with
  | inl q =>
    rw [en] at hn
    obtain ⟨s2, b2, e2, f2, p2⟩ := hn
    show Fail R n p s _ q
    rw [e2, bnx_ir]
    exact ⟨s2, b2, rfl, f2, p2⟩
  | inr w =>
    obtain ⟨y, p1, l1⟩ := w
    rw [en] at hn
    obtain ⟨s1, x, e1, r1, X1, P1, pp1, ll1⟩ := hn
    have h1 : Pre s1 R T n p1 l1 d m := h.pf r1 P1 (by omega) pp1.2 (Nat.le_refl _) (Nat.le_refl _) ll1.2 h.2.2.2.2.1
    have hm1 := h1.2.2.1
    unfold Rm at hm1
    have hn01 := P1.2.1.1
    show TO R T n p l d m (D + 1) s _ (@ite _ (tokIs T n p1 (strB i)) (Classical.propDecidable _) (sevL T n i all next 401 [y] d p1 l1) (.inr (y, p1, l1)))
    rw [e1, bnx_il, isRd_g r1.1, e_X6_is r1 hi, bnd_s, k_0]
    by_cases a : tokIs T n p1 (strB i)
    · rw [if_neg (by rw [bZ_i0]; exact fun z => z a), if_pos a]
      obtain ⟨s2, e2, S2, P2, O2⟩ := e_X17_init (R := R) (s := s1) (lo := sn s) (D := D) (all := all) h1.2.1 hR hn01 (by omega) (by omega) (f := fun _ => 0) (t := fun _ => y) (KK := fun s15 a18 => bnd (F_J2_add s15 a18 (some x)) fun _ s22 => LOOP FU s22 (some R) (some (sn s1)))
      have e2' : (gd (okN s1 2) <| nam (newO s1 (14, 0) 2) fun s12 => bnd (F_X17_init s12 (sn s1) (iI (if all then 1 else 0))) fun _ s15 => gd (isK s15 (sn s1) 14) <| drf (sr s15 (sn s1) 1) fun a18 => gd (isK s15 a18 18) <| bnd (F_J2_add s15 a18 (some x)) fun _ s22 => LOOP FU s22 (some R) (some (sn s1))) = bnd (F_J2_add s2 (sn s1 + 1) (some x)) fun _ s22 => LOOP FU s22 (some R) (some (sn s1)) := e2
      rw [e2']
      have k2 := P2.2.1
      have X2 := X1.go (P2.kp (by omega) (Nat.le_refl _))
      obtain ⟨s3, b3, c3, e3, S3, P3, o3, n3⟩ := e_sev_add S2 (P2.2.2.1 h1.2.1) (by omega) X2 (Nat.le_refl _) k2.1 (Or.inr ⟨Nat.le_refl _, by omega, by omega⟩) hR (P1.tr P2) (Nat.le_refl _) (by unfold Tk at k2; omega) (by unfold Tk at k2; omega)
      rw [e3, bnd_s]
      have h31 := h.2.2.2.2.2
      have r3 : RdE s3 R T n p1 l1 d m := (r1.old O2 h1.R (by omega)).same (o3 R (by unfold Tk at k2; omega) (by omega) (by omega)) (o3 19 (by unfold Tk at k2; omega) (by omega) (by omega))
      have hw := tokW a hlen (by omega) pp1.2
      have hp4 := h.1.pos
      have hI := e_sevL hN hi hlen h2len hL h 401 p1 l1 1 (sn s1) (sn s1 + 1) b3 c3 _ _ (ladd (fun _ => 0) 0 x) (tadd (fun _ => y) 0 y) s3 r3 S3 P3 (Or.inr ⟨a, by omega, by omega⟩) pp1.1 ll1 (by omega) (by omega) FU (by unfold FU; omega)
      have hmap : (List.range 1).map (tadd (fun _ => y) 0 y) = [y] := rfl
      rw [hmap] at hI
      cases ev : sevL T n i all next 401 [y] d p1 l1 with
      | inl q =>
        rw [ev] at hI
        exact hI
      | inr w =>
        obtain ⟨t', p', l'⟩ := w
        rw [ev] at hI
        exact hI
    · rw [if_pos (by rw [bZ_i0]; exact a), if_neg a]
      exact ⟨s1, x, rfl, r1, X1.le (Nat.le_refl _) (Nat.le_refl _) (Nat.le_succ _), P1, pp1, ll1⟩
theorem e_X6_both {recT : St → Nat → RF} {R : Nat} {T : Nat → Int} {n m d D : Nat} {next : Nat → Nat → Nat → PR DT} (hP : ∀ s p l, Pre s R T n p l d m → TO R T n p l d m D s (F_X6_plain recT s R) (next d p l)) : ∀ s p l, Pre s R T n p l d m → TO R T n p l d m (D + 1) s (F_X6_both recT s R) (sevT T n 24 true next d p l) := by
  intro s p l h
  unfold F_X6_both
  rw [isRd_g h.1.1]
  exact e_sevT (NEXT := F_X6_plain recT) (i := 24) (all := true) hP (by decide) (len := 3) (by decide) (by decide) (LOOP := F_X6_both_34 recT) (fun fu s A => rfl) s p l h
theorem e_X6_test {recT : St → Nat → RF} {R : Nat} {T : Nat → Int} {n m d D : Nat} {next : Nat → Nat → Nat → PR DT} (hP : ∀ s p l, Pre s R T n p l d m → TO R T n p l d m D s (F_X6_both recT s R) (next d p l)) : ∀ s p l, Pre s R T n p l d m → TO R T n p l d m (D + 1) s (F_X6_test recT s R) (sevT T n 25 false next d p l) := by
  intro s p l h
  unfold F_X6_test
  rw [isRd_g h.1.1]
  exact e_sevT (NEXT := F_X6_both recT) (i := 25) (all := false) hP (by decide) (len := 2) (by decide) (by decide) (LOOP := F_X6_test_34 recT) (fun fu s A => rfl) s p l h
/-- tests, by depth -/
theorem e_testR {R : Nat} {T : Nat → Int} {n m : Nat} {V : VP} (hV : ∀ d s p l, Pre s R T n p l d m → VO R T n p l d m s (F_valueD s R) (V p l)) : ∀ (k d : Nat), 9 ≤ k + d → ∀ s p l, Pre s R T n p l d m → TO R T n p l d m (3 * (8 - d) + 4) s (F_testR k s R) (testP T n V k d p l) := by
  intro k
  induction k with
  | zero => intro d hd s p l h; have := h.2.2.2.2.1; omega
  | succ k ih =>
    intro d hd s p l h
    have hd8 := h.2.2.2.2.1
    exact e_X6_test (D := 3 * (8 - d) + 3) (e_X6_both (D := 3 * (8 - d) + 2) (e_X6_plain (D := 3 * (8 - d) + 1) (e_X6_positive (fun h8 s p l h => by
      have := ih (d + 1) (by omega) s p l h
      rw [show 3 * (8 - (d + 1)) + 4 = 3 * (8 - d) + 1 by omega] at this
      exact this) (e_sumR hV 12 d (by omega))))) s p l h
