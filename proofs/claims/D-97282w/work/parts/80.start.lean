/-! THE ENVIRONMENT AT THE LAW'S ENTRY -/
set_option maxRecDepth 100000
theorem nl {args : Array Value} {s : State} (h : (Jvm.Cond.and given_1 narrow_1).before args s = true) {w : Cond} (i : Nat) (hi : (flatC (Jvm.Cond.and given_1 narrow_1))[i]? = some w) : w.before args s = true := flat_of_before _ h _ (List.mem_of_getElem? hi)
theorem L_of {args : Array Value} {s : State} {C n d : String} {A : Nat → Prop} (hl : (Cond.laysStatic C n d).before args s = true) (hA : ∀ a : Nat, a < s.heap.size → ¬ A a) : va_L C n d A s s.heap := by
  obtain ⟨c, k, i, f, a, cell, hc, hi, hst, ha, hcell, hs, hcls, hlt, hty⟩ := Cond.laysStatic_spec hl
  exact ⟨c, k, i, f, a, cell, hc, hi, hst, ha, hcell, hs, hcls, hlt, hty, hA a (Array.getElem?_eq_some_iff.mp hcell).1⟩
theorem Zl_of {args : Array Value} {s : State} {C n d : String} {z : Int64} {A : Nat → Prop} (hl : (Cond.laysStatic C n d).before args s = true) (hini : (Cond.initialized C).before args s = true) (hv : (Cond.eq (.static C n d) (.long z)).before args s = true) (hA : ∀ a : Nat, a < s.heap.size → ¬ A a) : va_Z C n d (.long z) A s s.heap := va_Zof hl hini (va_eqtl hv) hA
theorem Zi_of {args : Array Value} {s : State} {C n d : String} {z : Int32} {A : Nat → Prop} (hl : (Cond.laysStatic C n d).before args s = true) (hini : (Cond.initialized C).before args s = true) (hv : (Cond.eq (.static C n d) (.int z)).before args s = true) (hA : ∀ a : Nat, a < s.heap.size → ¬ A a) : va_Z C n d (.int z) A s s.heap := va_Zof hl hini (va_eqt hv) hA
theorem nc0 {s : State} {b : Nat} (hgv : (Jvm.Cond.and given_1 narrow_1).before #[Value.ref b] s = true) : NC s := by
  intro q hq
  rcases List.mem_cons.mp hq with rfl | hq
  · exact asg.no (A := "java/lang/ClassCastException") (B := "java/lang/NullPointerException") (nl hgv 84 (by decide +kernel))
  rcases List.mem_cons.mp hq with rfl | hq
  · exact asg.no (A := "java/lang/ArrayIndexOutOfBoundsException") (B := "java/lang/NullPointerException") (nl hgv 85 (by decide +kernel))
  rcases List.mem_cons.mp hq with rfl | hq
  · exact asg.no (A := "java/lang/ArrayIndexOutOfBoundsException") (B := "java/lang/ClassCastException") (nl hgv 102 (by decide +kernel))
  rcases List.mem_cons.mp hq with rfl | hq
  · exact asg.no (A := "java/lang/ArrayStoreException") (B := "java/lang/NullPointerException") (nl hgv 87 (by decide +kernel))
  rcases List.mem_cons.mp hq with rfl | hq
  · exact asg.no (A := "java/lang/ArrayIndexOutOfBoundsException") (B := "java/lang/ArrayStoreException") (nl hgv 137 (by decide +kernel))
  rcases List.mem_cons.mp hq with rfl | hq
  · exact asg.no (A := "[B") (B := "[S") (nl hgv 249 (by decide +kernel))
  rcases List.mem_cons.mp hq with rfl | hq
  · exact asg.no (A := "[B") (B := "[I") (nl hgv 273 (by decide +kernel))
  rcases List.mem_cons.mp hq with rfl | hq
  · exact asg.no (A := "[B") (B := "[J") (nl hgv 299 (by decide +kernel))
  rcases List.mem_cons.mp hq with rfl | hq
  · exact asg.no (A := "[S") (B := "[B") (nl hgv 224 (by decide +kernel))
  rcases List.mem_cons.mp hq with rfl | hq
  · exact asg.no (A := "[S") (B := "[I") (nl hgv 274 (by decide +kernel))
  rcases List.mem_cons.mp hq with rfl | hq
  · exact asg.no (A := "[S") (B := "[J") (nl hgv 300 (by decide +kernel))
  rcases List.mem_cons.mp hq with rfl | hq
  · exact asg.no (A := "[I") (B := "[B") (nl hgv 223 (by decide +kernel))
  rcases List.mem_cons.mp hq with rfl | hq
  · exact asg.no (A := "[I") (B := "[S") (nl hgv 248 (by decide +kernel))
  rcases List.mem_cons.mp hq with rfl | hq
  · exact asg.no (A := "[I") (B := "[J") (nl hgv 298 (by decide +kernel))
  rcases List.mem_cons.mp hq with rfl | hq
  · exact asg.no (A := "[J") (B := "[B") (nl hgv 225 (by decide +kernel))
  rcases List.mem_cons.mp hq with rfl | hq
  · exact asg.no (A := "[J") (B := "[S") (nl hgv 250 (by decide +kernel))
  rcases List.mem_cons.mp hq with rfl | hq
  · exact asg.no (A := "[J") (B := "[I") (nl hgv 275 (by decide +kernel))
  cases hq
theorem sg0 {s : State} {b : Nat} (hts : ∀ w ∈ lw_tbl, w.before #[Value.ref b] s = true) (hgv : (Jvm.Cond.and given_1 narrow_1).before #[Value.ref b] s = true) : SG (fun q : Nat => s.heap.size ≤ q) s s.heap := by
  have hA : ∀ a : Nat, a < s.heap.size → ¬ (fun q : Nat => s.heap.size ≤ q) a := fun a h => Nat.not_le.mpr h
  have two : ∀ i : Nat, i < 2 → i = 0 ∨ i = 1 := fun i h => by omega
  obtain ⟨k, v, h1, h2⟩ := vk_Sof (s := s) (args := #[Value.ref b]) (N := 2) (tm := fun i => if i = 0 then Term.string "HoleCounty" 301 else Term.string "HoleCounty" 319) (len := [5, 3]) (byt := [[48, 49, 50, 51, 45], [100, 102, 114]]) (A := fun q : Nat => s.heap.size ≤ q)
    (fun i hi => by rcases two i hi with rfl | rfl <;> decide)
    (fun i hi => by rcases two i hi with rfl | rfl; exact nl hgv 328 (by decide +kernel); exact nl hgv 337 (by decide +kernel))
    (fun i hi => by rcases two i hi with rfl | rfl; exact nl hgv 329 (by decide +kernel); exact nl hgv 338 (by decide +kernel))
    (fun i hi => by rcases two i hi with rfl | rfl; exact nl hgv 330 (by decide +kernel); exact nl hgv 339 (by decide +kernel))
    (fun i hi => by rcases two i hi with rfl | rfl; exact nl hgv 331 (by decide +kernel); exact nl hgv 340 (by decide +kernel))
    (fun i hi j hj => by
      rcases two i hi with rfl | rfl
      · rcases (show j = 0 ∨ j = 1 ∨ j = 2 ∨ j = 3 ∨ j = 4 from by have : j < 5 := hj; omega) with rfl | rfl | rfl | rfl | rfl
        · exact nl hgv 332 (by decide +kernel)
        · exact nl hgv 333 (by decide +kernel)
        · exact nl hgv 334 (by decide +kernel)
        · exact nl hgv 335 (by decide +kernel)
        · exact nl hgv 336 (by decide +kernel)
      · rcases (show j = 0 ∨ j = 1 ∨ j = 2 from by have : j < 3 := hj; omega) with rfl | rfl | rfl
        · exact nl hgv 341 (by decide +kernel)
        · exact nl hgv 342 (by decide +kernel)
        · exact nl hgv 343 (by decide +kernel)
      )
    (fun i j hi hj hij => by
      rcases two i hi with rfl | rfl <;> rcases two j hj with rfl | rfl
      · exact absurd rfl hij
      · exact Or.inl (nl hgv 344 (by decide +kernel))
      · exact Or.inr (nl hgv 344 (by decide +kernel))
      · exact absurd rfl hij) hA
  exact ⟨k, v, h1, vk_R.of (A := #[Value.ref b]) (hts _ q785) (h2 0 (by decide)), vk_R.of (A := #[Value.ref b]) (hts _ q876) (h2 1 (by decide))⟩
theorem zg0 {s : State} {b : Nat} (hts : ∀ w ∈ lw_tbl, w.before #[Value.ref b] s = true) (hgv : (Jvm.Cond.and given_1 narrow_1).before #[Value.ref b] s = true) : ∃ eA : Nat, ZG (fun q : Nat => s.heap.size ≤ q) eA s s.heap := by
  have hA : ∀ a : Nat, a < s.heap.size → ¬ (fun q : Nat => s.heap.size ≤ q) a := fun a h => Nat.not_le.mpr h
  obtain ⟨eA, he, hT⟩ := va_Tof (s := s) (args := #[Value.ref b]) (tm := Term.static "java/util/ArrayList" "DEFAULTCAPACITY_EMPTY_ELEMENTDATA" "[Ljava/lang/Object;") (ty := .object "java/lang/Object") (N := 0) (f := fun _ => .null) (A := fun q : Nat => s.heap.size ≤ q) (by decide) (nl hgv 5 (by decide +kernel)) (va_eqt (nl hgv 7 (by decide +kernel))) (fun j hj => absurd hj (Nat.not_lt_zero j)) hA
  exact ⟨eA, Zl_of (hts _ q280) (hts _ (lw_all_tbl q54)) (nl hgv 9 (by decide +kernel)) hA, Zl_of (hts _ q277) (hts _ (lw_all_tbl q54)) (nl hgv 8 (by decide +kernel)) hA, Zl_of (hts _ q309) (hts _ (lw_all_tbl q54)) (nl hgv 10 (by decide +kernel)) hA, Zl_of (hts _ q311) (hts _ (lw_all_tbl q54)) (nl hgv 11 (by decide +kernel)) hA, Zl_of (hts _ q327) (hts _ (lw_all_tbl q54)) (nl hgv 12 (by decide +kernel)) hA, va_Zof (hts _ q166) (hts _ (lw_all_tbl q58)) he hA, hT, va_Oof (nl hgv 6 (by decide +kernel)) he hA, Zi_of (hts _ q803) (hts _ (lw_all_tbl q76)) (nl hgv 15 (by decide +kernel)) hA, va_Zqof (hts _ q548) (hts _ (lw_all_tbl q73)) (nl hgv 13 (by decide +kernel)) hA, va_Zqof (hts _ q550) (hts _ (lw_all_tbl q73)) (nl hgv 14 (by decide +kernel)) hA, L_of (hts _ q548) hA, L_of (hts _ q550) hA⟩
theorem kg0 {s : State} {b : Nat} (hts : ∀ w ∈ lw_tbl, w.before #[Value.ref b] s = true) : ∃ (dC : Nat → ClassId) (dI : Nat → Nat → Nat) (dA : Nat → ClassId), va_K (dC, dI) vwCl (tysG dA) s := by
  have hta : ∀ w ∈ lw_all, w.before #[Value.ref b] s = true := fun w hw => hts w (lw_all_tbl hw)
  obtain ⟨c0, i0, hk0⟩ := u_known (C := RX0) (T := TX0) (N := 21) (n := 21) hta in_X0 (hta _ q481)
  obtain ⟨c1, i1, hk1⟩ := u_known (C := RX1) (T := TX1) (N := 3) (n := 3) hta in_X1 (hta _ q337)
  obtain ⟨c2, i2, hk2⟩ := u_known (C := RX2) (T := TX2) (N := 1) (n := 1) hta in_X2 (hta _ q1097)
  obtain ⟨c3, i3, hk3⟩ := u_known (C := RX3) (T := TX3) (N := 27) (n := 27) hta in_X3 (hta _ q1173)
  obtain ⟨c4, i4, hk4⟩ := u_known (C := RX4) (T := TX4) (N := 4) (n := 4) hta in_X4 (hta _ q100)
  obtain ⟨c5, i5, hk5⟩ := u_known (C := RX5) (T := TX5) (N := 2) (n := 2) hta in_X5 (hta _ q346)
  obtain ⟨c6, i6, hk6⟩ := u_known (C := RX6) (T := TX6) (N := 2) (n := 2) hta in_X6 (hta _ q340)
  obtain ⟨c7, i7, hk7⟩ := u_known (C := RX7) (T := TX7) (N := 2) (n := 2) hta in_X7 (hta _ q287)
  obtain ⟨c8, i8, hk8⟩ := u_known (C := RX8) (T := TX8) (N := 2) (n := 2) hta in_X8 (hta _ q329)
  obtain ⟨c9, i9, hk9⟩ := u_known (C := RX9) (T := TX9) (N := 2) (n := 2) hta in_X9 (hta _ q315)
  obtain ⟨c10, i10, hk10⟩ := u_known (C := RX10) (T := TX10) (N := 7) (n := 7) hta in_X10 (hta _ q749)
  obtain ⟨c11, i11, hk11⟩ := u_known (C := RJ2) (T := TJ2) (N := 3) (n := 3) hta in_J2 (hta _ q144)
  obtain ⟨a0, ka0, co0, ha0, hb0, hc0⟩ := Cond.arrayClass_spec (hta _ q616)
  obtain ⟨a1, ka1, co1, ha1, hb1, hc1⟩ := Cond.arrayClass_spec (hta _ q515)
  obtain ⟨a2, ka2, co2, ha2, hb2, hc2⟩ := Cond.arrayClass_spec (hta _ q934)
  obtain ⟨a3, ka3, co3, ha3, hb3, hc3⟩ := Cond.arrayClass_spec (hta _ q933)
  obtain ⟨co4, a4, ka4, hd4, -, hb4, hc4, ha4⟩ := Cond.arrayOver_spec (hts _ q206)
  obtain ⟨co5, a5, ka5, hd5, -, hb5, hc5, ha5⟩ := Cond.arrayOver_spec (hts _ q1096)
  refine ⟨fun k => if k = 0 then c0 else if k = 1 then c1 else if k = 2 then c2 else if k = 3 then c3 else if k = 4 then c4 else if k = 5 then c5 else if k = 6 then c6 else if k = 7 then c7 else if k = 8 then c8 else if k = 9 then c9 else if k = 10 then c10 else c11, fun k => if k = 0 then i0 else if k = 1 then i1 else if k = 2 then i2 else if k = 3 then i3 else if k = 4 then i4 else if k = 5 then i5 else if k = 6 then i6 else if k = 7 then i7 else if k = 8 then i8 else if k = 9 then i9 else if k = 10 then i10 else i11, fun k => if k = 0 then a0 else if k = 1 then a1 else if k = 2 then a2 else if k = 3 then a3 else if k = 4 then a4 else a5, fun k q hq => ?_, fun k q hq => ?_⟩
  · match k, hq with
    | 0, hq => cases hq; exact hk0
    | 1, hq => cases hq; exact hk1
    | 2, hq => cases hq; exact hk2
    | 3, hq => cases hq; exact hk3
    | 4, hq => cases hq; exact hk4
    | 5, hq => cases hq; exact hk5
    | 6, hq => cases hq; exact hk6
    | 7, hq => cases hq; exact hk7
    | 8, hq => cases hq; exact hk8
    | 9, hq => cases hq; exact hk9
    | 10, hq => cases hq; exact hk10
    | 11, hq => cases hq; exact hk11
    | k + 12, hq => simp [vwCl] at hq
  · match k, hq with
    | 0, hq => cases hq; exact ⟨fun n z => ⟨fun k h => (by cases h), ka0, hb0, co0, hc0⟩, ha0⟩
    | 1, hq => cases hq; exact ⟨fun n z => ⟨fun k h => (by cases h), ka1, hb1, co1, hc1⟩, ha1⟩
    | 2, hq => cases hq; exact ⟨fun n z => ⟨fun k h => (by cases h), ka2, hb2, co2, hc2⟩, ha2⟩
    | 3, hq => cases hq; exact ⟨fun n z => ⟨fun k h => (by cases h), ka3, hb3, co3, hc3⟩, ha3⟩
    | 4, hq => cases hq; exact ⟨fun n z => ⟨fun k h => (by cases h), ka4, hb4, co4, hc4⟩, ka4, co4, hb4, hc4, hd4, ha4⟩
    | 5, hq => cases hq; exact ⟨fun n z => ⟨fun k h => (by cases h), ka5, hb5, co5, hc5⟩, ka5, co5, hb5, hc5, hd5, ha5⟩
    | k + 6, hq => simp at hq
/-- the environment at the law's entry -/
theorem env0 {s : State} {b : Nat} (hts : ∀ w ∈ lw_tbl, w.before #[Value.ref b] s = true) (hgv : (Jvm.Cond.and given_1 narrow_1).before #[Value.ref b] s = true) : ∃ (dC : Nat → ClassId) (dI : Nat → Nat → Nat) (dA : Nat → ClassId) (eA mi : Nat), va_K (dC, dI) vwCl (tysG dA) s ∧ EG (fun q : Nat => s.heap.size ≤ q) eA mi s s.heap := by
  obtain ⟨dC, dI, dA, hK⟩ := kg0 hts
  obtain ⟨eA, hZ⟩ := zg0 hts hgv
  obtain ⟨mi, hM⟩ := va_Mi.of (C := "[Ljava/lang/Object;") (nl hgv 327 (by decide +kernel))
  exact ⟨dC, dI, dA, eA, mi, hK, NG.of hts, ⟨⟨va_AO.of (hts _ q206), hM⟩, sg0 hts hgv⟩, ⟨va_AO.of (hts _ q1096), va_Fw.of (hts _ q895) (hts _ q894) (hts _ q900) (hts _ q898) (hts _ q896), nc0 hgv⟩, hZ⟩
