set_option maxRecDepth 100000
/-! ===== the component: the best so far, throws for a friend ===== -/
def BsE (s : St) (q : Int × Int) : Prop := sl s 0 22 = lI q.1 ∧ sl s 0 23 = lI q.2
theorem sL_l {s : St} {a k b j : Nat} {v : Int64} : sl (setL s a k v) b j = if b = a then (if j = k then v else sl s b j) else sl s b j := rfl
theorem Fr.setL0 {S : Nat → Prop} {s : St} {k : Nat} {v : Int64} (h : S 22) : Fr S s (setL s 0 k v) := ⟨rfl, rfl, ⟨rfl, rfl, rfl, rfl⟩, fun _ _ => rfl, fun b _ h2 => by
  funext j
  rw [sL_l, if_neg (h2.resolve_right fun z => z h)]⟩
abbrev t22 (x : Nat) : Prop := x = 22
abbrev n28 (x : Nat) : Prop := x = 28 ∨ x = 22
theorem Fr.n1 {s s' : St} (h : Fr t28 s s') : Fr n28 s s' := h.le fun b hb => Or.inl hb
theorem Fr.n2 {s s' : St} (h : Fr t22 s s') : Fr n28 s s' := h.le fun b hb => Or.inr hb
theorem Fr.smn {s s' : St} (h : Fr n28 s s') : Sm s s' := h.sm fun b hb => by
  unfold n28 at hb
  omega
theorem PpE.fr {S : Nat → Prop} {s s' : St} {p : Int → Int} (h : PpE s p) (f : Fr S s s') (hS : ¬ S 28) : PpE s' p := by
  unfold PpE
  rw [f.2.2.2.1 28 hS]
  exact h
theorem C0.setL0 {D : Nat → Prop} {s : St} {w : WR} {ls : List (List DC)} (h : C0 D s w ls) {k : Nat} {v : Int64} : C0 D (setL s 0 k v) w ls := by
  obtain ⟨h1, h2, ⟨b, c, f, hL, hE⟩, hD⟩ := h
  have hK : Kp D s (setL s 0 k v) := fun x hx => ⟨rfl, rfl, by
    have e : x ≠ 0 := by have := hD x hx; omega
    funext j
    rw [sL_l, if_neg e], rfl⟩
  exact ⟨h1.same rfl rfl, h2, ⟨b, c, f, hL, fun i x hx => (hE i x hx).go hK⟩, hD⟩
theorem BsE.fr {s s' : St} {q : Int × Int} (h : BsE s q) (e : sl s' 0 = sl s 0) : BsE s' q := by
  unfold BsE
  rw [e]
  exact h
theorem LkA.go {D : Nat → Prop} {s s' : St} {w : WR} {ls : List (List DC)} {A : Nat} (h : LkA D s w ls A) (f : Fr n28 s s') (c : C0 D s' w ls) : LkA D s' w ls A :=
  ⟨⟨c, by rw [f.2.2.2.1 0 (by decide)]; exact h.1.2.1, h.1.2.2.fr f (by decide)⟩, h.2.1, fun j hj => (h.2.2 j hj).fr f fun b h1 _ z => by
    have z : b = 28 ∨ b = 22 := z
    have := h.2.1
    omega⟩
theorem e_X0_none {D : Nat → Prop} {s : St} {w : WR} {ls : List (List DC)} (hC : C0 D s w ls) : ∃ s1, F_X0_none s = some ((), s1) ∧ C0 D s1 w ls ∧ BsE s1 (-1, 1) ∧ Fr t22 s s1 :=
  ⟨setL (setL s 0 22 (-1)) 0 23 1, rfl, hC.setL0.setL0, ⟨rfl, rfl⟩, Fr.tr (S := t22) (Fr.setL0 rfl) (Fr.setL0 rfl)⟩
theorem e_X0_isMore {D : Nat → Prop} {s : St} {w : WR} {ls : List (List DC)} (hC : C0 D s w ls) {q : Int × Int} (hB : BsE s q) {u l : Int} (h1 : -1000000000 ≤ u ∧ u ≤ 1000000000) (h2 : -1000000000 ≤ l ∧ l ≤ 1000000000) (h3 : -1000000000 ≤ q.1 ∧ q.1 ≤ 1000000000) (h4 : -1000000000 ≤ q.2 ∧ q.2 ≤ 1000000000) : ∃ s1, F_X0_isMore s (lI u) (lI l) = some (iI (bZ (q.1 * l < u * q.2)), s1) ∧ C0 D s1 w ls ∧ BsE s1 (if q.1 * l < u * q.2 then (u, l) else q) ∧ Fr t22 s s1 := by
  have m1 := mul_rng h3 h2
  have m2 := mul_rng h1 h4
  unfold F_X0_isMore
  rw [hB.1, hB.2, lI_mul, lI_mul, k_1, k_0]
  by_cases h : q.1 * l < u * q.2
  · rw [if_pos (by rw [lI_lt (by omega) (by omega)]; exact h), if_pos h, bZ_t h, nam_v, nam_v]
    exact ⟨_, rfl, hC.setL0.setL0, ⟨rfl, rfl⟩, Fr.tr (S := t22) (Fr.setL0 rfl) (Fr.setL0 rfl)⟩
  · rw [if_neg (by rw [lI_lt (by omega) (by omega)]; exact h), if_neg h, bZ_f h]
    exact ⟨_, rfl, hC, hB, Fr.rf⟩
/-- the best of fractions: from j on, n of them -/
def mxF (u l : Int → Int) : Nat → Int → Int × Int × Int → Int × Int × Int
  | 0, _, q => q
  | n + 1, j, q => mxF u l n (j + 1) (if q.2.1 * l j < u j * q.2.2 then (j, u j, l j) else q)
def mxO (q : Int × Int × Int) : Prop := (-1 ≤ q.2.1 ∧ q.2.1 ≤ 1000000) ∧ (1 ≤ q.2.2 ∧ q.2.2 ≤ 1000000)
def mxU (u l : Int → Int) : Prop := ∀ j, (0 ≤ u j ∧ u j ≤ 1000000) ∧ (1 ≤ l j ∧ l j ≤ 1000000)
theorem mxO.step {u l : Int → Int} (hu : mxU u l) {q : Int × Int × Int} (h : mxO q) {j : Int} : mxO (if q.2.1 * l j < u j * q.2.2 then (j, u j, l j) else q) ∧ 0 ≤ (if q.2.1 * l j < u j * q.2.2 then (j, u j, l j) else q).2.1 := by
  have hj := hu j
  by_cases hc : q.2.1 * l j < u j * q.2.2
  · rw [if_pos hc]
    exact ⟨⟨show -1 ≤ u j ∧ u j ≤ 1000000 by omega, hj.2⟩, hj.1.1⟩
  · rw [if_neg hc]
    refine ⟨h, ?_⟩
    by_cases h1 : q.2.1 = -1
    · exfalso
      apply hc
      rw [h1]
      have : 0 ≤ u j * q.2.2 := Int.mul_nonneg hj.1.1 (by have := h.2; omega)
      omega
    · have := h.1
      omega
theorem mxF_ok {u l : Int → Int} (hu : mxU u l) : ∀ (n : Nat) (j : Int) (q : Int × Int × Int), mxO q → mxO (mxF u l n j q) ∧ (0 < n ∨ 0 ≤ q.2.1 → 0 ≤ (mxF u l n j q).2.1)
  | 0, j, q, h => ⟨h, fun z => z.resolve_left (by omega)⟩
  | n + 1, j, q, h => by
    have hs := mxO.step hu h (j := j)
    have := mxF_ok hu n (j + 1) _ hs.1
    exact ⟨this.1, fun _ => this.2 (Or.inr hs.2)⟩
theorem mxF_le {u l : Int → Int} {B : Int} : ∀ (n : Nat) (j : Int) (q : Int × Int × Int), q.1 ≤ B → j + n ≤ B + 1 → (mxF u l n j q).1 ≤ B
  | 0, j, q, h, _ => h
  | n + 1, j, q, h, h0 => by
    rw [mxF]
    refine mxF_le n (j + 1) _ ?_ (by omega)
    split
    · show j ≤ B
      omega
    · exact h
theorem mxF_ge {u l : Int → Int} : ∀ (n : Nat) (j : Int) (q : Int × Int × Int), -1 ≤ q.1 → 0 ≤ j → -1 ≤ (mxF u l n j q).1
  | 0, j, q, h, _ => h
  | n + 1, j, q, h, h0 => by
    rw [mxF]
    refine mxF_ge n (j + 1) _ ?_ (by omega)
    split
    · show -1 ≤ j
      omega
    · exact h
theorem mxF_0 {u l : Int → Int} : ∀ (n : Nat) (j : Int) (q : Int × Int × Int), 0 ≤ q.1 → 0 ≤ j → 0 ≤ (mxF u l n j q).1
  | 0, j, q, h, _ => h
  | n + 1, j, q, h, h0 => by
    rw [mxF]
    refine mxF_0 n (j + 1) _ ?_ (by omega)
    split
    · exact h0
    · exact h
/-- a call that may lay flights -/
def OpA (D : Nat → Prop) (s : St) (ls : List (List DC)) (o : Option Nat) {α : Type} (x : Option (α × St)) (r : α) (w' : WR) : Prop := ∃ s' o', x = some (r, s') ∧ C0 D s' w' ls ∧ Mem D s' o' ∧ Gone s s' o o'
theorem Gone.rf {s : St} {o : Option Nat} : Gone s s o o := ⟨Bg.rf, ⟨Nat.le_refl _, by omega, Nat.le_refl _, by omega⟩, Or.inl rfl⟩
theorem Gone.sm {s s' : St} {o : Option Nat} (h : Sm s s') : Gone s s' o o := ⟨Bg.sm h, ⟨by rw [h.2.2.1.1]; exact Nat.le_refl _, by rw [h.2.2.1.1]; omega, by rw [h.2.2.1.2.1]; exact Nat.le_refl _, by rw [h.2.2.1.2.1]; omega⟩, Or.inl rfl⟩
theorem Mem.sm {D : Nat → Prop} {s s' : St} {o : Option Nat} (h : Mem D s o) (f : Sm s s') : Mem D s' o := h.fr f.fr
/-- after all flights are laid: only the paper and the notes change -/
theorem Gone.go {s s1 s2 : St} {o o' : Option Nat} (h : Gone s s1 o o') (f : Fr n28 s1 s2) : Gone s s2 o o' := by
  have hs := f.smn
  have z := f.2.2.1
  refine ⟨h.1.tr h.2.1.1 (Bg.sm hs), by rw [z.1, z.2.1]; exact h.2.1, h.2.2⟩
theorem OpA.of {D : Nat → Prop} {s s' : St} {ls : List (List DC)} {o : Option Nat} {α : Type} {r : α} {w : WR} (hM : Mem D s o) (hC : C0 D s' w ls) (hs : Sm s s') : OpA D s ls o (some (r, s')) r w := ⟨s', o, rfl, hC, hM.sm hs, Gone.sm hs⟩
/-- what is told of the best throw -/
def frZ (k what : Int) (q : Int × Int) : Int := if what = 0 then 1 + k / 5 else if what = 1 then k % 5 else tellZ q.1 q.2 (decide (what = 2))
theorem e_X0_friendOf (s : St) {q : Int × Int} (hB : BsE s q) (h1 : 0 ≤ q.1 ∧ q.1 ≤ 1000000) (h2 : 1 ≤ q.2 ∧ q.2 ≤ 1000000) {k what : Int} (hk : 0 ≤ k ∧ k ≤ 24) (hw : 0 ≤ what ∧ what ≤ 10) : F_X0_friendOf s (iI k) (iI what) = some (lI (frZ k what q), s) := by
  unfold F_X0_friendOf F_X0_friendOf_42 frZ
  rw [hB.1, hB.2, k_0, k_1, k_2, k_5, e_X0_forceOf s (by omega), bnd_s, iI_remn (by omega) (by omega), iI_l (by omega), iI_l (by omega)]
  by_cases a : what = 0
  · rw [if_pos (by rw [a]), if_pos a]
  · rw [if_neg (by rw [iI_eq (by omega) (by omega)]; exact a), if_neg a]
    by_cases b : what = 1
    · rw [if_pos (by rw [b]), if_pos b]
    · rw [if_neg (by rw [iI_eq (by omega) (by omega)]; exact b), if_neg b]
      by_cases c : what = 2
      · rw [if_pos (by rw [c]), e_tells_b s (by omega) (by omega) (what = 2) (by rw [if_pos c]), bnd_s]
      · rw [if_neg (by rw [iI_eq (by omega) (by omega)]; exact c), e_tells_b s (by omega) (by omega) (what = 2) (by rw [if_neg c]), bnd_s]
theorem FlT.mx {s : St} {w : WR} {ls : List (List DC)} {A j : Nat} (h : FlT s w ls A j) {n c : Int} {f : Int → Int} : (0 ≤ chF w ls n c f (thL w ls j) ∧ chF w ls n c f (thL w ls j) ≤ 1000000) ∧ (1 ≤ 60 * sumW (thL w ls j) ∧ 60 * sumW (thL w ls j) ≤ 1000000) := by
  have h1 := h.2.2.cO (w := w) (ls := ls) (n := n) (c := c) (f := f)
  have h2 := h.2.2.sum
  have h3 : 0 < sumW (thL w ls j) := laysL_pos
  omega
noncomputable def frU (w : WR) (ls : List (List DC)) (c : Int) (j : Int) : Int := chF w ls (w 2 8) c (w 3) (thL w ls j)
noncomputable def frL (w : WR) (ls : List (List DC)) (j : Int) : Int := 60 * sumW (thL w ls j)
theorem laysL_mem {w : WR} {ls : List (List DC)} (hW : Wf w ls) {f sd : Int} : (laysL w ls f sd).length ≤ 9 ∧ ∀ x ∈ laysL w ls f sd, (-1 ≤ x.1 ∧ x.1 ≤ 35) ∧ (0 ≤ x.2 ∧ x.2 ≤ 9) := by
  have ht := hW.trm
  unfold laysL
  split
  · refine ⟨by show 1 ≤ 9; decide, fun x hx => ?_⟩
    rw [List.mem_singleton] at hx
    rw [hx]
    exact ⟨by show -1 ≤ w 8 6 ∧ w 8 6 ≤ 35; omega, by show (0 : Int) ≤ 1 ∧ (1 : Int) ≤ 9; decide⟩
  · split
    · refine ⟨by show 1 ≤ 9; decide, fun x hx => ?_⟩
      rw [List.mem_singleton] at hx
      rw [hx]
      exact ⟨cellA_r, by show (0 : Int) ≤ 1 ∧ (1 : Int) ≤ 9; decide⟩
    · refine ⟨by show 9 ≤ 9; decide, fun x hx => ?_⟩
      unfold nineL at hx
      simp only [List.mem_cons, List.not_mem_nil, or_false] at hx
      rcases hx with rfl | rfl | rfl | rfl | rfl | rfl | rfl | rfl | rfl <;> exact ⟨cellA_r, slipZ_r⟩
theorem laysL_sum {w : WR} {ls : List (List DC)} (hW : Wf w ls) {f sd : Int} : 1 ≤ sumW (laysL w ls f sd) ∧ sumW (laysL w ls f sd) ≤ 81 := by
  have h1 := laysL_mem hW (f := f) (sd := sd)
  have h2 := sumW_r fun x hx => (h1.2 x hx).2
  have h3 := laysL_pos (w := w) (ls := ls) (f := f) (sd := sd)
  omega
theorem th_mx {w : WR} {ls : List (List DC)} (hW : Wf w ls) {g : Int → Int → Int} {n c : Int} : mxU (fun j => chF w ls n c (g j) (thL w ls j)) (frL w ls) := fun j => by
  have h1 := laysL_mem hW (f := 1 + j / 5) (sd := j % 5 - 2)
  have h2 := laysL_sum hW (f := 1 + j / 5) (sd := j % 5 - 2)
  have h3 := chF_r (w := w) (ls := ls) (n := n) (c := c) (f := g j) (fl := laysL w ls (1 + j / 5) (j % 5 - 2)) fun x hx => (h1.2 x hx).2
  unfold frL thL
  constructor
  · show 0 ≤ chF w ls n c (g j) (laysL w ls (1 + j / 5) (j % 5 - 2)) ∧ chF w ls n c (g j) (laysL w ls (1 + j / 5) (j % 5 - 2)) ≤ 1000000
    omega
  · omega
/-- the flight j, as the calls fetch it -/
theorem e_X0_fl {α : Type} {s : St} {w : WR} {ls : List (List DC)} {A : Nat} {j : Int} (hj : 0 ≤ j ∧ j < 25) (hT : ∀ j, j < 25 → FlT s w ls A j) : sr s 26 (iI j).toNatClampNeg = some (A + 3 * j.toNat) ∧ FlE s (A + 3 * j.toNat) (A + 3 * j.toNat + 1) (A + 3 * j.toNat + 2) (thL w ls j) ∧ (sk s (A + 3 * j.toNat)).1 = 4 ∧ ∀ {x : Option α}, gd (inb (iI j) 25) x = x := by
  have h := hT j.toNat (by omega)
  rw [iI_nat (by omega)]
  refine ⟨h.1, ?_, h.2.1.1, fun {x} => inb_g (by omega)⟩
  have := h.2.2
  rw [show ((j.toNat : Nat) : Int) = j by omega] at this
  exact this
theorem e_X0_friend_34 {D : Nat → Prop} {w : WR} {ls : List (List DC)} (hW : Wf w ls) {A : Nat} {c what : Int} (hc : 0 ≤ c ∧ c < w 2 8) (hw : 0 ≤ what ∧ what ≤ 3) : ∀ (n : Nat) (j : Int) (s : St) (q : Int × Int × Int), LkA D s w ls A → BsE s q.2 → mxO q → (0 < n ∨ 0 ≤ q.2.1) → 0 ≤ j → 25 = n + j → (0 ≤ q.1 ∧ q.1 ≤ 24) → ∀ fu, n < fu → ∃ s1, F_X0_friend_34 fu s (iI c) (iI what) (iI q.1) (iI j) = some (lI (frZ (mxF (frU w ls c) (frL w ls) n j q).1 what (mxF (frU w ls c) (frL w ls) n j q).2), s1) ∧ C0 D s1 w ls ∧ Fr n28 s s1 := by
  intro n
  induction n with
  | zero =>
    intro j s q hL hB hq h0 hj hn h1 fu hfu
    obtain ⟨fu, rfl⟩ : ∃ g, fu = g + 1 := ⟨fu - 1, by omega⟩
    refine ⟨s, ?_, hL.1.1, Fr.rf⟩
    rw [F_X0_friend_34]
    show (if (25 : Int32) ≤ iI j then _ else _) = _
    rw [k_25, if_pos (by rw [iI_le (by omega) (by omega)]; omega), e_X0_friendOf s hB ⟨h0.resolve_left (by omega), hq.1.2⟩ hq.2 h1 (by omega), bnd_s]
    rfl
  | succ n ih =>
    intro j s q hL hB hq h0 hj hn h1 fu hfu
    obtain ⟨fu, rfl⟩ : ∃ g, fu = g + 1 := ⟨fu - 1, by omega⟩
    obtain ⟨f1, f2, f3, f4⟩ := e_X0_fl (α := Int64 × St) (j := j) (by omega) hL.2.2
    have hu : mxU (frU w ls c) (frL w ls) := th_mx hW (g := fun _ => w 3) (n := w 2 8) (c := c)
    have hj2 := hu j
    have hst := mxO.step hu hq (j := j)
    obtain ⟨s1, e1, c1, b1, r1⟩ := e_X0_isMore hL.1.1 hB (u := frU w ls c j) (l := frL w ls j) (by omega) (by omega) (by have := hq.1; omega) (by have := hq.2; omega)
    have hL1 := hL.go r1.n2 c1
    rw [F_X0_friend_34]
    show ∃ s1, (if (25 : Int32) ≤ iI j then _ else _) = _ ∧ _
    rw [k_25, if_neg (by rw [iI_le (by omega) (by omega)]; omega), f4, f1, hL.1.chance3 hW f2 (Or.inr hc), bnd_s, f4, f1, drf_s, isK_g f3, e_X4_lower f2, bnd_s]
    show ∃ s2, bnd (F_X0_isMore s (lI (frU w ls c j)) (lI (frL w ls j))) _ = _ ∧ _
    rw [e1, bnd_s, k_0, k_1, iI_add, mxF]
    by_cases hm : q.2.1 * frL w ls j < frU w ls c j * q.2.2
    · rw [if_pos hm] at b1 ⊢
      rw [if_neg (by rw [bZ_i0]; exact fun z => z hm)]
      obtain ⟨s2, e2, c2, r2⟩ := ih (j + 1) s1 (j, frU w ls c j, frL w ls j) hL1 b1 (by have := hst.1; rw [if_pos hm] at this; exact this) (Or.inr (by have := hst.2; rw [if_pos hm] at this; exact this)) (by omega) (by omega) (show 0 ≤ j ∧ j ≤ 24 by omega) fu (by omega)
      exact ⟨s2, e2, c2, r1.n2.tr r2⟩
    · rw [if_neg hm] at b1 ⊢
      rw [if_pos (by rw [bZ_i0]; exact hm)]
      obtain ⟨s2, e2, c2, r2⟩ := ih (j + 1) s1 q hL1 b1 hq (Or.inr (by have := hst.2; rw [if_neg hm] at this; exact this)) (by omega) (by omega) h1 fu (by omega)
      exact ⟨s2, e2, c2, r1.n2.tr r2⟩
noncomputable def friendV (w : WR) (ls : List (List DC)) (c what : Int) : Int := @ite _ (isC w c ∧ (0 ≤ what ∧ what ≤ 3)) (Classical.propDecidable _) (frZ (mxF (frU w ls c) (frL w ls) 25 0 (0, -1, 1)).1 what (mxF (frU w ls c) (frL w ls) 25 0 (0, -1, 1)).2) (-1)
theorem mxO_0 {k : Int} : mxO (k, -1, 1) := ⟨show (-1 : Int) ≤ -1 ∧ (-1 : Int) ≤ 1000000 by decide, show (1 : Int) ≤ 1 ∧ (1 : Int) ≤ 1000000 by decide⟩
theorem x_friend {D : Nat → Prop} {s : St} {w : WR} {ls : List (List DC)} (hC : C0 D s w ls) (hW : Wf w ls) {o : Option Nat} (hM : Mem D s o) (hR : Room s o) {c what : Int} (h1 : i32 c) (h2 : i32 what) : OpA D s ls o (F_X0_friend s (iI c) (iI what)) (lI (friendV w ls c what)) w := by
  have hm := hW.1
  unfold i32 at h1 h2
  unfold F_X0_friend friendV
  rw [e_X0_isCatcher hC.2.1 hm h1, bnd_s, K_m1, k_0, k_3]
  by_cases a1 : isC w c
  · have a3 : 0 ≤ c ∧ c < w 2 8 := a1
    rw [if_neg (by rw [bZ_i0]; exact fun z => z a1), e_X0_in s (by omega) (by omega) (by omega), bnd_s]
    by_cases a2 : 0 ≤ what ∧ what ≤ 3
    · obtain ⟨s1, A, e1, L1, F1, M1, G1⟩ := e_X0_looksAtAll hC hW hM hR
      obtain ⟨s2, e2, c2, b2, r2⟩ := e_X0_none L1.1.1
      obtain ⟨s3, e3, c3, r3⟩ := e_X0_friend_34 hW a3 a2 25 0 s2 (0, -1, 1) (L1.go r2.n2 c2) b2 mxO_0 (Or.inl (by omega)) (by omega) (by omega) (by decide) FU (FU_ge (by omega))
      rw [if_neg (by rw [bZ_i0]; exact fun z => z a2), if_pos ⟨a1, a2⟩, e1, bnd_s, e2, bnd_s, e3]
      exact ⟨s3, some A, rfl, c3, (M1.fr r2).fr r3, (G1.go r2.n2).go r3⟩
    · rw [if_pos (by rw [bZ_i0]; exact a2), if_neg (fun z => a2 z.2)]
      exact OpA.of hM hC Sm.rf
  · rw [if_pos (by rw [bZ_i0]; exact a1), if_neg (fun z => a1 z.1)]
    exact OpA.of hM hC Sm.rf
