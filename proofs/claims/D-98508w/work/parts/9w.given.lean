set_option maxRecDepth 100000
/-! ===== what the Statement gives of the start ===== -/
theorem zr_ref {args : Array Value} {s : State} {t : Term} (h : (Cond.isRef t).before args s = true) : ∃ a : Nat, t.eval args s none [] s = some (.ref a) := by
  obtain ⟨v, hv, h1⟩ := Cond.isRef_spec h
  cases v with
  | ref a => exact ⟨a, hv⟩
  | _ => simp [Value.isRef] at h1
theorem zr_eq {args : Array Value} {s : State} {t u : Term} {a c : Nat} (h : (Cond.eq t u).before args s = true) (h1 : t.eval args s none [] s = some (.ref a)) (h2 : u.eval args s none [] s = some (.ref c)) : a = c := by
  simp only [Cond.before, Cond.holds, Cond.value, h1, h2] at h
  simpa using h
theorem zr_str {args : Array Value} {s : State} {t : Term} {len : Nat} {byt : List Int32} {A : Nat → Prop} (hN : len < 2 ^ 31) (hex : (Cond.exactly t "java/lang/String").before args s = true) (hco : (Cond.eq (.field t "java/lang/String" "coder" "B") (.int 0)).before args s = true) (har : (Cond.arrayOf (.field t "java/lang/String" "value" "[B") .byte).before args s = true) (hle : (Cond.eq (.length (.field t "java/lang/String" "value" "[B")) (.int (Int32.ofNat len))).before args s = true)
    (hel : ∀ j : Nat, j < len → (Cond.eq (.elem (.field t "java/lang/String" "value" "[B") (.int (Int32.ofNat j))) (.int (byt.getD j 0))).before args s = true) (hA : ∀ a : Nat, a < s.heap.size → ¬ A a) :
    ∃ q : Nat × Nat, t.eval args s none [] s = some (.ref q.1) ∧ va_O "java/lang/String" q.1 A s s.heap ∧ va_OF "java/lang/String" "coder" "B" (.int 0) q.1 A s s.heap ∧ va_OF "java/lang/String" "value" "[B" (.ref q.2) q.1 A s s.heap ∧ va_T .byte q.2 len (fun j => .int (byt.getD j 0)) A s s.heap := by
  obtain ⟨a, c, cA, kA, q1, q2, q3, q4, q5, q6, -⟩ := Cond.exactly_spec (args := args) (first := s) (o := none) (s := s) (idx := []) (t := t) (cls := "java/lang/String") hex
  obtain ⟨v, ht, hT⟩ := va_Tof (f := fun j => .int (byt.getD j 0)) (A := A) hN har (va_eqt hle) (fun j hj => va_eqt (hel j hj)) hA
  exact ⟨(a, v), q1, ⟨cA, q3, q5, by rw [q6]; exact q2, hA a (Array.getElem?_eq_some_iff.mp q3).1⟩, vk_OFof q1 (va_eqt hco) hA, vk_OFof q1 ht hA, hT⟩
def tmS (i : Nat) : Term := .string (kstr.getD i ("", 0, "", 0)).1 (kstr.getD i ("", 0, "", 0)).2.1
def gvL : List Cond := flatC (Jvm.Cond.and given_1 narrow_1)
def pS : List Nat := [248, 260, 268, 278, 286, 372, 378, 389, 397, 403, 412, 131, 136, 296, 301, 306, 311, 316, 327, 334, 339, 344, 349, 354, 359, 366, 419, 97, 106, 115, 123, 141, 150, 158, 166, 174, 180, 186, 197, 205, 213, 220, 230, 235, 240]
theorem gv_s : ∀ i : Nat, i < 45 → gvL[pS.getD i 0]? = some (.exactly (tmS i) "java/lang/String") ∧ gvL[pS.getD i 0 + 1]? = some (.eq (.field (tmS i) "java/lang/String" "coder" "B") (.int 0)) ∧ gvL[pS.getD i 0 + 2]? = some (.arrayOf (.field (tmS i) "java/lang/String" "value" "[B") .byte) ∧ gvL[pS.getD i 0 + 3]? = some (.eq (.length (.field (tmS i) "java/lang/String" "value" "[B")) (.int (Int32.ofNat (slen.getD i 0)))) ∧ ∀ j : Nat, j < slen.getD i 0 → gvL[pS.getD i 0 + 4 + j]? = some (.eq (.elem (.field (tmS i) "java/lang/String" "value" "[B") (.int (Int32.ofNat j))) (.int ((sbyt.getD i []).getD j 0))) := by decide +kernel
theorem sl_lt : ∀ i : Nat, i < 45 → slen.getD i 0 < 2 ^ 31 := by decide +kernel
theorem gv_if : gvL[321]? = some (.exactly (.string "RoseThrow$LawReader" 50) "java/lang/String") ∧ gvL[418]? = some (.eq (.string "RoseThrow$LawReader" 50) (tmS 10)) := by decide +kernel
theorem gv_z : gvL[8]? = some (.isRef (.static "java/lang/Throwable" "UNASSIGNED_STACK" "[Ljava/lang/StackTraceElement;")) ∧ gvL[9]? = some (.isRef (.static "java/lang/Throwable" "SUPPRESSED_SENTINEL" "Ljava/util/List;")) ∧ gvL[4]? = some (.isRef (.static "java/util/ArrayList" "EMPTY_ELEMENTDATA" "[Ljava/lang/Object;")) ∧ gvL[10]? = some (.isRef (.static "java/util/ArrayList" "DEFAULTCAPACITY_EMPTY_ELEMENTDATA" "[Ljava/lang/Object;")) ∧ gvL[16]? = some (.isRef (.static "jdk/internal/util/Preconditions" "SIOOBE_FORMATTER" "Ljava/util/function/BiFunction;")) ∧ gvL[15]? = some (.eq (.static "java/lang/String" "COMPACT_STRINGS" "Z") (.int 1)) ∧ gvL[96]? = some (.isRef (.mirror "[Ljava/lang/Object;")) := by decide +kernel
def kF (adK adV zs : Nat → Nat) (a : Nat) : Nat := if a < 1000000100 then adK (a - 1000000000) else if a < 1000000900 then adV (a - 1000000100) else zs (a - 1000000900)
theorem kF_t {adK adV zs : Nat → Nat} {i : Nat} (h : i < 45) : kF adK adV zs (1000000000 + i) = adK i := by
  unfold kF
  rw [if_pos (by omega), show 1000000000 + i - 1000000000 = i by omega]
theorem kF_b {adK adV zs : Nat → Nat} {i : Nat} (h : i < 45) : kF adK adV zs (1000000100 + i) = adV i := by
  unfold kF
  rw [if_neg (by omega), if_pos (by omega), show 1000000100 + i - 1000000100 = i by omega]
theorem kF_z {adK adV zs : Nat → Nat} (i : Nat) : kF adK adV zs (1000000900 + i) = zs i := by
  unfold kF
  rw [if_neg (by omega), if_neg (by omega), show 1000000900 + i - 1000000900 = i by omega]
theorem ar_w {args : Array Value} {s : State} {ty : FieldType} (h : (Cond.arrayClass ty).before args s = true) (hne : ∀ C, ty ≠ .object C) : ∃ cA : ClassId, ArrOfT s cA ty ∧ va_RA s cA ty := by
  obtain ⟨cA, kA, comp, h1, h2, h3⟩ := Cond.arrayClass_spec h
  refine ⟨cA, fun n z => ⟨fun k h => (by cases h), kA, h2, comp, h3⟩, ?_⟩
  cases ty with
  | object C => exact absurd rfl (hne C)
  | _ => exact h1
theorem ar_o {args : Array Value} {s : State} {C : String} (h : (Cond.arrayOver (.object C)).before args s = true) : ∃ cA : ClassId, ArrOfT s cA (.object C) ∧ va_RA s cA (.object C) := by
  obtain ⟨comp, cA, kA, h1, -, h2, h3, h4⟩ := Cond.arrayOver_spec h
  exact ⟨cA, fun n z => ⟨fun k h => (by cases h), kA, h2, comp, h3⟩, kA, comp, h2, h3, h1, h4⟩
theorem cl_w {s : State} {b : Nat} (hts : ∀ w ∈ lw_all, w.before #[Value.ref b] s = true) : ∃ D : va_G, ∀ (c : Nat) (q : vw_C), CL[c]? = some q → u_Kn s q.1 q.2.1 q.2.2 (D.1 c) (D.2 c) := by
  have h0 : ∀ c : Nat, ∃ d : ClassId × (Nat → Nat), ∀ q : vw_C, CL[c]? = some q → u_Kn s q.1 q.2.1 q.2.2 d.1 d.2 := by
    intro c
    by_cases hc : c < 19
    · rcases (show c = 0 ∨ c = 1 ∨ c = 2 ∨ c = 3 ∨ c = 4 ∨ c = 5 ∨ c = 6 ∨ c = 7 ∨ c = 8 ∨ c = 9 ∨ c = 10 ∨ c = 11 ∨ c = 12 ∨ c = 13 ∨ c = 14 ∨ c = 15 ∨ c = 16 ∨ c = 17 ∨ c = 18 by omega) with rfl | rfl | rfl | rfl | rfl | rfl | rfl | rfl | rfl | rfl | rfl | rfl | rfl | rfl | rfl | rfl | rfl | rfl | rfl
      · obtain ⟨d1, d2, hd⟩ := u_known (C := RX0) (T := TX0) (N := 28) hts in_X0 (hts _ q163)
        exact ⟨(d1, d2), fun q hq => by cases hq; exact hd⟩
      · obtain ⟨d1, d2, hd⟩ := u_known (C := RX1) (T := TX1) (N := 11) hts in_X1 (hts _ q171)
        exact ⟨(d1, d2), fun q hq => by cases hq; exact hd⟩
      · obtain ⟨d1, d2, hd⟩ := u_known (C := RX2) (T := TX2) (N := 2) hts in_X2 (hts _ q252)
        exact ⟨(d1, d2), fun q hq => by cases hq; exact hd⟩
      · obtain ⟨d1, d2, hd⟩ := u_known (C := RX3) (T := TX3) (N := 6) hts in_X3 (hts _ q258)
        exact ⟨(d1, d2), fun q hq => by cases hq; exact hd⟩
      · obtain ⟨d1, d2, hd⟩ := u_known (C := RX4) (T := TX4) (N := 5) hts in_X4 (hts _ q330)
        exact ⟨(d1, d2), fun q hq => by cases hq; exact hd⟩
      · obtain ⟨d1, d2, hd⟩ := u_known (C := RX5) (T := TX5) (N := 67) hts in_X5 (hts _ q1489)
        exact ⟨(d1, d2), fun q hq => by cases hq; exact hd⟩
      · obtain ⟨d1, d2, hd⟩ := u_known (C := RX7) (T := TX7) (N := 8) hts in_X7 (hts _ q695)
        exact ⟨(d1, d2), fun q hq => by cases hq; exact hd⟩
      · obtain ⟨d1, d2, hd⟩ := u_known (C := RX8) (T := TX8) (N := 7) hts in_X8 (hts _ q823)
        exact ⟨(d1, d2), fun q hq => by cases hq; exact hd⟩
      · obtain ⟨d1, d2, hd⟩ := u_known (C := RX9) (T := TX9) (N := 3) hts in_X9 (hts _ q846)
        exact ⟨(d1, d2), fun q hq => by cases hq; exact hd⟩
      · obtain ⟨d1, d2, hd⟩ := u_known (C := RX11) (T := TX11) (N := 1) hts in_X11 (hts _ q911)
        exact ⟨(d1, d2), fun q hq => by cases hq; exact hd⟩
      · obtain ⟨d1, d2, hd⟩ := u_known (C := RX12) (T := TX12) (N := 1) hts in_X12 (hts _ q971)
        exact ⟨(d1, d2), fun q hq => by cases hq; exact hd⟩
      · obtain ⟨d1, d2, hd⟩ := u_known (C := RX13) (T := TX13) (N := 3) hts in_X13 (hts _ q984)
        exact ⟨(d1, d2), fun q hq => by cases hq; exact hd⟩
      · obtain ⟨d1, d2, hd⟩ := u_known (C := RX15) (T := TX15) (N := 3) hts in_X15 (hts _ q1038)
        exact ⟨(d1, d2), fun q hq => by cases hq; exact hd⟩
      · obtain ⟨d1, d2, hd⟩ := u_known (C := RX16) (T := TX16) (N := 1) hts in_X16 (hts _ q1057)
        exact ⟨(d1, d2), fun q hq => by cases hq; exact hd⟩
      · obtain ⟨d1, d2, hd⟩ := u_known (C := RX17) (T := TX17) (N := 2) hts in_X17 (hts _ q1068)
        exact ⟨(d1, d2), fun q hq => by cases hq; exact hd⟩
      · obtain ⟨d1, d2, hd⟩ := u_known (C := RX18) (T := TX18) (N := 5) hts in_X18 (hts _ q1113)
        exact ⟨(d1, d2), fun q hq => by cases hq; exact hd⟩
      · obtain ⟨d1, d2, hd⟩ := u_known (C := RX19) (T := TX19) (N := 1) hts in_X19 (hts _ q1158)
        exact ⟨(d1, d2), fun q hq => by cases hq; exact hd⟩
      · obtain ⟨d1, d2, hd⟩ := u_known (C := RX20) (T := TX20) (N := 8) hts in_X20 (hts _ q1415)
        exact ⟨(d1, d2), fun q hq => by cases hq; exact hd⟩
      · obtain ⟨d1, d2, hd⟩ := u_known (C := RJ2) (T := TJ2) (N := 3) hts in_J2 (hts _ q177)
        exact ⟨(d1, d2), fun q hq => by cases hq; exact hd⟩
    · refine ⟨(0, fun _ => 0), fun q hq => ?_⟩
      have := (List.getElem?_eq_some_iff.mp hq).1
      have h19 : CL.length = 19 := rfl
      omega
  obtain ⟨D, hD⟩ := Classical.axiomOfChoice h0
  exact ⟨(fun c => (D c).1, fun c => (D c).2), hD⟩
theorem kw_of {s : State} {b : Nat} (hts : ∀ w ∈ lw_tbl, w.before #[Value.ref b] s = true) (hgv : (Jvm.Cond.and given_1 narrow_1).before #[Value.ref b] s = true) : ∃ w : WE, w.2.2.2 = s.heap.size ∧ KW w s := by
  have hg : ∀ {i : Nat} {c : Cond}, gvL[i]? = some c → c.before #[Value.ref b] s = true := fun h => flat_of_before _ hgv _ (List.mem_of_getElem? h)
  have hts1 : ∀ w ∈ lw_all, w.before #[Value.ref b] s = true := fun w h => hts w (lw_all_tbl h)
  have hA : ∀ a : Nat, a < s.heap.size → ¬ (fun q : Nat => s.heap.size ≤ q) a := fun a h => Nat.not_le.mpr h
  obtain ⟨D, hD⟩ := cl_w hts1
  obtain ⟨t0, a0⟩ := ar_w (hts1 _ q204) (fun C h => by cases h)
  obtain ⟨t1, a1⟩ := ar_w (hts1 _ q328) (fun C h => by cases h)
  obtain ⟨t2, a2⟩ := ar_w (hts1 _ q317) (fun C h => by cases h)
  obtain ⟨t3, a3⟩ := ar_w (hts1 _ q1719) (fun C h => by cases h)
  obtain ⟨t4, a4⟩ := ar_o (hts _ q189)
  obtain ⟨t5, a5⟩ := ar_o (hts _ q250)
  obtain ⟨t6, a6⟩ := ar_o (hts _ q355)
  obtain ⟨y0, y1, y2, y3, y4, y5, y6⟩ := gv_z
  obtain ⟨z0, e0⟩ := zr_ref (hg y0)
  obtain ⟨z1, e1⟩ := zr_ref (hg y1)
  obtain ⟨z2, e2⟩ := zr_ref (hg y2)
  obtain ⟨z3, e3⟩ := zr_ref (hg y3)
  obtain ⟨z4, e4⟩ := zr_ref (hg y4)
  have e5 := va_eqi (hg y5)
  obtain ⟨mi, hmi⟩ := va_Mi.of (hg y6)
  have hs0 : ∀ i : Nat, ∃ q : Nat × Nat, i < 45 → (tmS i).eval #[Value.ref b] s none [] s = some (.ref q.1) ∧ va_O "java/lang/String" q.1 (fun q => s.heap.size ≤ q) s s.heap ∧ va_OF "java/lang/String" "coder" "B" (.int 0) q.1 (fun q => s.heap.size ≤ q) s s.heap ∧ va_OF "java/lang/String" "value" "[B" (.ref q.2) q.1 (fun q => s.heap.size ≤ q) s s.heap ∧ va_T .byte q.2 (slen.getD i 0) (fun j => .int ((sbyt.getD i []).getD j 0)) (fun q => s.heap.size ≤ q) s s.heap := by
    intro i
    by_cases hi : i < 45
    · obtain ⟨g1, g2, g3, g4, g5⟩ := gv_s i hi
      obtain ⟨q, hq⟩ := zr_str (A := fun q => s.heap.size ≤ q) (sl_lt i hi) (hg g1) (hg g2) (hg g3) (hg g4) (fun j hj => hg (g5 j hj)) hA
      exact ⟨q, fun _ => hq⟩
    · exact ⟨(0, 0), fun h => absurd h hi⟩
  obtain ⟨ad, had⟩ := Classical.axiomOfChoice hs0
  have hif : (Term.string "RoseThrow$LawReader" 50).eval #[Value.ref b] s none [] s = some (.ref (ad 10).1) := by
    obtain ⟨g1, g2⟩ := gv_if
    obtain ⟨a, c, cA, kA, q1, -⟩ := Cond.exactly_spec (args := #[Value.ref b]) (first := s) (o := none) (s := s) (idx := []) (t := .string "RoseThrow$LawReader" 50) (cls := "java/lang/String") (hg g1)
    rw [← zr_eq (hg g2) q1 (had 10 (by decide)).1]
    exact q1
  have hK : ∃ K : Nat → Nat, (∀ i, i < 45 → K (1000000000 + i) = (ad i).1) ∧ (∀ i, i < 45 → K (1000000100 + i) = (ad i).2) ∧ K 1000000900 = z0 ∧ K 1000000901 = z1 ∧ K 1000000902 = z2 ∧ K 1000000903 = z3 ∧ K 1000000904 = z4 ∧ K 1000000905 = mi :=
    ⟨kF (fun i => (ad i).1) (fun i => (ad i).2) (fun k => match k with | 0 => z0 | 1 => z1 | 2 => z2 | 3 => z3 | 4 => z4 | _ => mi), fun i hi => kF_t hi, fun i hi => kF_b hi, kF_z 0, kF_z 1, kF_z 2, kF_z 3, kF_z 4, kF_z 5⟩
  obtain ⟨K, k1, k2, k3, k4, k5, k6, k7, k8⟩ := hK
  have hr : ∀ {i k : Nat} {own tx : String}, i < 45 → (Term.string own k).eval #[Value.ref b] s none [] s = some (.ref (ad i).1) → Cond.stringRef own k tx ∈ lw_tbl → vk_R own k tx (K (1000000000 + i)) s := fun hi he hm => by
    rw [k1 _ hi]
    exact vk_R.of (hts _ hm) he
  refine ⟨(D, fun k => match k with | 0 => t0 | 1 => t1 | 2 => t2 | 3 => t3 | 4 => t4 | 5 => t5 | _ => t6, K, s.heap.size), rfl, ⟨⟨hD, fun k q hq => ?_⟩, fun w hw => ?_, ⟨va_AO.of (hts _ q189), va_AO.of (hts _ q250), va_AO.of (hts _ q355)⟩, ?_, ?_, ?_⟩, ?_, fun i hi => ?_⟩
  · have hk : k < 7 := (List.getElem?_eq_some_iff.mp hq).1
    rcases (show k = 0 ∨ k = 1 ∨ k = 2 ∨ k = 3 ∨ k = 4 ∨ k = 5 ∨ k = 6 by omega) with rfl | rfl | rfl | rfl | rfl | rfl | rfl <;> cases hq
    · exact a0
    · exact a1
    · exact a2
    · exact a3
    · exact a4
    · exact a5
    · exact a6
  · obtain ⟨h1, h2⟩ := List.mem_filter.mp hw
    exact va_Nw.of (by cases w <;> first | rfl | exact Bool.noConfusion h2) (hts _ h1)
  · exact List.forall_mem_cons.mpr ⟨hr (i := 0) (by decide) (had 0 (by decide)).1 q958, List.forall_mem_cons.mpr ⟨hr (i := 1) (by decide) (had 1 (by decide)).1 q962, List.forall_mem_cons.mpr ⟨hr (i := 2) (by decide) (had 2 (by decide)).1 q963, List.forall_mem_cons.mpr ⟨hr (i := 3) (by decide) (had 3 (by decide)).1 q964, List.forall_mem_cons.mpr ⟨hr (i := 4) (by decide) (had 4 (by decide)).1 q969, List.forall_mem_cons.mpr ⟨hr (i := 5) (by decide) (had 5 (by decide)).1 q1100, List.forall_mem_cons.mpr ⟨hr (i := 6) (by decide) (had 6 (by decide)).1 q1104, List.forall_mem_cons.mpr ⟨hr (i := 7) (by decide) (had 7 (by decide)).1 q1105, List.forall_mem_cons.mpr ⟨hr (i := 8) (by decide) (had 8 (by decide)).1 q1143, List.forall_mem_cons.mpr ⟨hr (i := 9) (by decide) (had 9 (by decide)).1 q1148, List.forall_mem_cons.mpr ⟨hr (i := 10) (by decide) (had 10 (by decide)).1 q1152, List.forall_mem_cons.mpr ⟨hr (i := 11) (by decide) (had 11 (by decide)).1 q882, List.forall_mem_cons.mpr ⟨hr (i := 12) (by decide) (had 12 (by decide)).1 q891, List.forall_mem_cons.mpr ⟨hr (i := 13) (by decide) (had 13 (by decide)).1 q980, List.forall_mem_cons.mpr ⟨hr (i := 14) (by decide) (had 14 (by decide)).1 q981, List.forall_mem_cons.mpr ⟨hr (i := 15) (by decide) (had 15 (by decide)).1 q982, List.forall_mem_cons.mpr ⟨hr (i := 16) (by decide) (had 16 (by decide)).1 q999, List.forall_mem_cons.mpr ⟨hr (i := 17) (by decide) (had 17 (by decide)).1 q1000, List.forall_mem_cons.mpr ⟨hr (i := 18) (by decide) (had 18 (by decide)).1 q1024, List.forall_mem_cons.mpr ⟨hr (i := 19) (by decide) (had 19 (by decide)).1 q1031, List.forall_mem_cons.mpr ⟨hr (i := 20) (by decide) (had 20 (by decide)).1 q1033, List.forall_mem_cons.mpr ⟨hr (i := 21) (by decide) (had 21 (by decide)).1 q1034, List.forall_mem_cons.mpr ⟨hr (i := 22) (by decide) (had 22 (by decide)).1 q1035, List.forall_mem_cons.mpr ⟨hr (i := 23) (by decide) (had 23 (by decide)).1 q1036, List.forall_mem_cons.mpr ⟨hr (i := 24) (by decide) (had 24 (by decide)).1 q1066, List.forall_mem_cons.mpr ⟨hr (i := 25) (by decide) (had 25 (by decide)).1 q1095, List.forall_mem_cons.mpr ⟨hr (i := 26) (by decide) (had 26 (by decide)).1 q1157, List.forall_mem_cons.mpr ⟨hr (i := 27) (by decide) (had 27 (by decide)).1 q760, List.forall_mem_cons.mpr ⟨hr (i := 28) (by decide) (had 28 (by decide)).1 q813, List.forall_mem_cons.mpr ⟨hr (i := 29) (by decide) (had 29 (by decide)).1 q814, List.forall_mem_cons.mpr ⟨hr (i := 30) (by decide) (had 30 (by decide)).1 q815, List.forall_mem_cons.mpr ⟨hr (i := 31) (by decide) (had 31 (by decide)).1 q935, List.forall_mem_cons.mpr ⟨hr (i := 32) (by decide) (had 32 (by decide)).1 q942, List.forall_mem_cons.mpr ⟨hr (i := 33) (by decide) (had 33 (by decide)).1 q943, List.forall_mem_cons.mpr ⟨hr (i := 34) (by decide) (had 34 (by decide)).1 q944, List.forall_mem_cons.mpr ⟨hr (i := 35) (by decide) (had 35 (by decide)).1 q945, List.forall_mem_cons.mpr ⟨hr (i := 36) (by decide) (had 36 (by decide)).1 q946, List.forall_mem_cons.mpr ⟨hr (i := 37) (by decide) (had 37 (by decide)).1 q947, List.forall_mem_cons.mpr ⟨hr (i := 38) (by decide) (had 38 (by decide)).1 q948, List.forall_mem_cons.mpr ⟨hr (i := 39) (by decide) (had 39 (by decide)).1 q949, List.forall_mem_cons.mpr ⟨hr (i := 40) (by decide) (had 40 (by decide)).1 q950, List.forall_mem_cons.mpr ⟨hr (i := 41) (by decide) (had 41 (by decide)).1 q951, List.forall_mem_cons.mpr ⟨hr (i := 42) (by decide) (had 42 (by decide)).1 q952, List.forall_mem_cons.mpr ⟨hr (i := 43) (by decide) (had 43 (by decide)).1 q953, List.forall_mem_cons.mpr ⟨hr (i := 44) (by decide) (had 44 (by decide)).1 q954, List.forall_mem_cons.mpr ⟨hr (i := 10) (by decide) hif q1001, fun _ h => absurd h List.not_mem_nil⟩⟩⟩⟩⟩⟩⟩⟩⟩⟩⟩⟩⟩⟩⟩⟩⟩⟩⟩⟩⟩⟩⟩⟩⟩⟩⟩⟩⟩⟩⟩⟩⟩⟩⟩⟩⟩⟩⟩⟩⟩⟩⟩⟩⟩⟩
  · show va_Mi _ (K 1000000905) s
    rw [k8]
    exact hmi
  · exact va_Fw.of (hts _ q473) (hts _ q472) (hts _ q478) (hts _ q476) (hts _ q474)
  · exact List.forall_mem_cons.mpr ⟨(show va_Z "java/lang/Throwable" "UNASSIGNED_STACK" "[Ljava/lang/StackTraceElement;" (.ref (K 1000000900)) _ s s.heap by rw [k3]; exact va_Zof (hts _ q282) (hts1 _ q132) e0 hA), List.forall_mem_cons.mpr ⟨(show va_Z "java/lang/Throwable" "SUPPRESSED_SENTINEL" "Ljava/util/List;" (.ref (K 1000000901)) _ s s.heap by rw [k4]; exact va_Zof (hts _ q284) (hts1 _ q132) e1 hA), List.forall_mem_cons.mpr ⟨(show va_Z "java/util/ArrayList" "EMPTY_ELEMENTDATA" "[Ljava/lang/Object;" (.ref (K 1000000902)) _ s s.heap by rw [k5]; exact va_Zof (hts _ q191) (hts1 _ q130) e2 hA), List.forall_mem_cons.mpr ⟨(show va_Z "java/util/ArrayList" "DEFAULTCAPACITY_EMPTY_ELEMENTDATA" "[Ljava/lang/Object;" (.ref (K 1000000903)) _ s s.heap by rw [k6]; exact va_Zof (hts _ q520) (hts1 _ q130) e3 hA), List.forall_mem_cons.mpr ⟨(show va_Z "jdk/internal/util/Preconditions" "SIOOBE_FORMATTER" "Ljava/util/function/BiFunction;" (.ref (K 1000000904)) _ s s.heap by rw [k7]; exact va_Zof (hts _ q792) (hts1 _ q138) e4 hA), List.forall_mem_cons.mpr ⟨(va_Zof (hts _ q776) (hts1 _ q141) e5 hA), fun _ h => absurd h List.not_mem_nil⟩⟩⟩⟩⟩⟩
  · obtain ⟨-, g1, g2, g3, g4⟩ := had i hi
    show va_O _ (K (1000000000 + i)) _ _ _ ∧ va_OF _ _ _ _ (K (1000000000 + i)) _ _ _ ∧ va_OF _ _ _ (.ref (K (1000000100 + i))) (K (1000000000 + i)) _ _ _ ∧ va_T _ (K (1000000100 + i)) _ _ _ _ _
    rw [k1 i hi, k2 i hi]
    exact ⟨g1, g2, g3, g4⟩
