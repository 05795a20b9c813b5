set_option maxRecDepth 100000
/-! ===== THE START: from the entry of the law to its abstract state ===== -/
/-- String constants: place, owner, index, text, bytes, hash -/
def gCon : List (Nat × String × Nat × String × List Int32 × Int32) := [(1094, "VowelChoir$ChoirReader", 51, "singer", [115, 105, 110, 103, 101, 114], (-902265988)), (1103, "VowelChoir$ChoirReader", 57, "note", [110, 111, 116, 101], 3387378), (1104, "VowelChoir$ChoirReader", 59, "like", [108, 105, 107, 101], 3321751), (1105, "VowelChoir$ChoirReader", 75, "rest", [114, 101, 115, 116], 3496916), (1351, "VowelChoir$LawReader", 80, "length", [108, 101, 110, 103, 116, 104], (-1106363674)), (1353, "VowelChoir$LawReader", 86, "pay", [112, 97, 121], 110760), (1354, "VowelChoir$LawReader", 88, "left", [108, 101, 102, 116], 3317767), (1355, "VowelChoir$LawReader", 90, "sung", [115, 117, 110, 103], 3541915), (1356, "VowelChoir$LawReader", 92, "note", [110, 111, 116, 101], 3387378), (1357, "VowelChoir$LawReader", 94, "vowel", [118, 111, 119, 101, 108], 112399877), (1358, "VowelChoir$LawReader", 96, "day", [100, 97, 121], 99228), (1359, "VowelChoir$LawReader", 98, "singer", [115, 105, 110, 103, 101, 114], (-902265988)), (1360, "VowelChoir$LawReader", 100, "least", [108, 101, 97, 115, 116], 102846057), (1361, "VowelChoir$LawReader", 102, "most", [109, 111, 115, 116], 3357571), (1485, "VowelChoir$WorkReader", 60, "sing", [115, 105, 110, 103], 3530383), (1487, "VowelChoir$WorkReader", 65, "hymn", [104, 121, 109, 110], 3218034), (1488, "VowelChoir$WorkReader", 67, "rest", [114, 101, 115, 116], 3496916), (1489, "VowelChoir$WorkReader", 69, "hoarse", [104, 111, 97, 114, 115, 101], (-1212021814)), (1490, "VowelChoir$WorkReader", 71, "cure", [99, 117, 114, 101], 3065381), (1491, "VowelChoir$WorkReader", 73, "word", [119, 111, 114, 100], 3655434), (1492, "VowelChoir$WorkReader", 74, "day", [100, 97, 121], 99228), (1493, "VowelChoir$WorkReader", 76, "again", [97, 103, 97, 105, 110], 92746592)]
def gConW (q : Nat × String × Nat × String × List Int32 × Int32) : List Cond :=
  [.exactly (.string q.2.1 q.2.2.1) "java/lang/String", .eq (.field (.string q.2.1 q.2.2.1) "java/lang/String" "coder" "B") (.int 0), .arrayOf (.field (.string q.2.1 q.2.2.1) "java/lang/String" "value" "[B") .byte, .eq (.length (.field (.string q.2.1 q.2.2.1) "java/lang/String" "value" "[B")) (.int (Int32.ofNat q.2.2.2.2.1.length)), .eq (.field (.string q.2.1 q.2.2.1) "java/lang/String" "hash" "I") (.int q.2.2.2.2.2), .eq (.field (.string q.2.1 q.2.2.1) "java/lang/String" "hashIsZero" "Z") (.int 0), .exactly (.field (.string q.2.1 q.2.2.1) "java/lang/String" "value" "[B") "[B"] ++
  (List.range q.2.2.2.2.1.length).map (fun j => .eq (.elem (.field (.string q.2.1 q.2.2.1) "java/lang/String" "value" "[B") (.int (Int32.ofNat j))) (.int (q.2.2.2.2.1.getD j 0)))
theorem gs_in {big ws : List Cond} (is : List Nat) (h : is.map (fun i => big[i]?) = ws.map some) : ∀ w ∈ ws, w ∈ big := by
  intro w hw
  have h1 : some w ∈ ws.map some := List.mem_map.mpr ⟨w, hw, rfl⟩
  rw [← h] at h1
  obtain ⟨i, -, hi⟩ := List.mem_map.mp h1
  exact List.mem_of_getElem? hi
theorem gCon_1094 : ∀ w ∈ gConW (1094, "VowelChoir$ChoirReader", 51, "singer", [115, 105, 110, 103, 101, 114], (-902265988)), w ∈ flatC (Jvm.Cond.and given_1 narrow_1) := gs_in [513, 514, 515, 516, 523, 524, 1043, 517, 518, 519, 520, 521, 522] (by decide +kernel)
theorem gCon_1103 : ∀ w ∈ gConW (1103, "VowelChoir$ChoirReader", 57, "note", [110, 111, 116, 101], 3387378), w ∈ flatC (Jvm.Cond.and given_1 narrow_1) := gs_in [528, 529, 530, 531, 536, 537, 1044, 532, 533, 534, 535] (by decide +kernel)
theorem gCon_1104 : ∀ w ∈ gConW (1104, "VowelChoir$ChoirReader", 59, "like", [108, 105, 107, 101], 3321751), w ∈ flatC (Jvm.Cond.and given_1 narrow_1) := gs_in [542, 543, 544, 545, 550, 551, 1045, 546, 547, 548, 549] (by decide +kernel)
theorem gCon_1105 : ∀ w ∈ gConW (1105, "VowelChoir$ChoirReader", 75, "rest", [114, 101, 115, 116], 3496916), w ∈ flatC (Jvm.Cond.and given_1 narrow_1) := gs_in [557, 558, 559, 560, 565, 566, 1046, 561, 562, 563, 564] (by decide +kernel)
theorem gCon_1351 : ∀ w ∈ gConW (1351, "VowelChoir$LawReader", 80, "length", [108, 101, 110, 103, 116, 104], (-1106363674)), w ∈ flatC (Jvm.Cond.and given_1 narrow_1) := gs_in [573, 574, 575, 576, 583, 584, 1047, 577, 578, 579, 580, 581, 582] (by decide +kernel)
theorem gCon_1353 : ∀ w ∈ gConW (1353, "VowelChoir$LawReader", 86, "pay", [112, 97, 121], 110760), w ∈ flatC (Jvm.Cond.and given_1 narrow_1) := gs_in [592, 593, 594, 595, 599, 600, 1048, 596, 597, 598] (by decide +kernel)
theorem gCon_1354 : ∀ w ∈ gConW (1354, "VowelChoir$LawReader", 88, "left", [108, 101, 102, 116], 3317767), w ∈ flatC (Jvm.Cond.and given_1 narrow_1) := gs_in [609, 610, 611, 612, 617, 618, 1049, 613, 614, 615, 616] (by decide +kernel)
theorem gCon_1355 : ∀ w ∈ gConW (1355, "VowelChoir$LawReader", 90, "sung", [115, 117, 110, 103], 3541915), w ∈ flatC (Jvm.Cond.and given_1 narrow_1) := gs_in [628, 629, 630, 631, 636, 637, 1050, 632, 633, 634, 635] (by decide +kernel)
theorem gCon_1356 : ∀ w ∈ gConW (1356, "VowelChoir$LawReader", 92, "note", [110, 111, 116, 101], 3387378), w ∈ flatC (Jvm.Cond.and given_1 narrow_1) := gs_in [648, 649, 650, 651, 656, 657, 1051, 652, 653, 654, 655] (by decide +kernel)
theorem gCon_1357 : ∀ w ∈ gConW (1357, "VowelChoir$LawReader", 94, "vowel", [118, 111, 119, 101, 108], 112399877), w ∈ flatC (Jvm.Cond.and given_1 narrow_1) := gs_in [669, 670, 671, 672, 678, 679, 1052, 673, 674, 675, 676, 677] (by decide +kernel)
theorem gCon_1358 : ∀ w ∈ gConW (1358, "VowelChoir$LawReader", 96, "day", [100, 97, 121], 99228), w ∈ flatC (Jvm.Cond.and given_1 narrow_1) := gs_in [692, 693, 694, 695, 699, 700, 1053, 696, 697, 698] (by decide +kernel)
theorem gCon_1359 : ∀ w ∈ gConW (1359, "VowelChoir$LawReader", 98, "singer", [115, 105, 110, 103, 101, 114], (-902265988)), w ∈ flatC (Jvm.Cond.and given_1 narrow_1) := gs_in [714, 715, 716, 717, 724, 725, 1054, 718, 719, 720, 721, 722, 723] (by decide +kernel)
theorem gCon_1360 : ∀ w ∈ gConW (1360, "VowelChoir$LawReader", 100, "least", [108, 101, 97, 115, 116], 102846057), w ∈ flatC (Jvm.Cond.and given_1 narrow_1) := gs_in [740, 741, 742, 743, 749, 750, 1055, 744, 745, 746, 747, 748] (by decide +kernel)
theorem gCon_1361 : ∀ w ∈ gConW (1361, "VowelChoir$LawReader", 102, "most", [109, 111, 115, 116], 3357571), w ∈ flatC (Jvm.Cond.and given_1 narrow_1) := gs_in [766, 767, 768, 769, 774, 775, 1056, 770, 771, 772, 773] (by decide +kernel)
theorem gCon_1485 : ∀ w ∈ gConW (1485, "VowelChoir$WorkReader", 60, "sing", [115, 105, 110, 103], 3530383), w ∈ flatC (Jvm.Cond.and given_1 narrow_1) := gs_in [792, 793, 794, 795, 800, 801, 1057, 796, 797, 798, 799] (by decide +kernel)
theorem gCon_1487 : ∀ w ∈ gConW (1487, "VowelChoir$WorkReader", 65, "hymn", [104, 121, 109, 110], 3218034), w ∈ flatC (Jvm.Cond.and given_1 narrow_1) := gs_in [819, 820, 821, 822, 827, 828, 1058, 823, 824, 825, 826] (by decide +kernel)
theorem gCon_1488 : ∀ w ∈ gConW (1488, "VowelChoir$WorkReader", 67, "rest", [114, 101, 115, 116], 3496916), w ∈ flatC (Jvm.Cond.and given_1 narrow_1) := gs_in [847, 848, 849, 850, 855, 856, 1059, 851, 852, 853, 854] (by decide +kernel)
theorem gCon_1489 : ∀ w ∈ gConW (1489, "VowelChoir$WorkReader", 69, "hoarse", [104, 111, 97, 114, 115, 101], (-1212021814)), w ∈ flatC (Jvm.Cond.and given_1 narrow_1) := gs_in [876, 877, 878, 879, 886, 887, 1060, 880, 881, 882, 883, 884, 885] (by decide +kernel)
theorem gCon_1490 : ∀ w ∈ gConW (1490, "VowelChoir$WorkReader", 71, "cure", [99, 117, 114, 101], 3065381), w ∈ flatC (Jvm.Cond.and given_1 narrow_1) := gs_in [908, 909, 910, 911, 916, 917, 1061, 912, 913, 914, 915] (by decide +kernel)
theorem gCon_1491 : ∀ w ∈ gConW (1491, "VowelChoir$WorkReader", 73, "word", [119, 111, 114, 100], 3655434), w ∈ flatC (Jvm.Cond.and given_1 narrow_1) := gs_in [939, 940, 941, 942, 947, 948, 1062, 943, 944, 945, 946] (by decide +kernel)
theorem gCon_1492 : ∀ w ∈ gConW (1492, "VowelChoir$WorkReader", 74, "day", [100, 97, 121], 99228), w ∈ flatC (Jvm.Cond.and given_1 narrow_1) := gs_in [971, 972, 973, 974, 978, 979, 1063, 975, 976, 977] (by decide +kernel)
theorem gCon_1493 : ∀ w ∈ gConW (1493, "VowelChoir$WorkReader", 76, "again", [97, 103, 97, 105, 110], 92746592), w ∈ flatC (Jvm.Cond.and given_1 narrow_1) := gs_in [1003, 1004, 1005, 1006, 1012, 1013, 1064, 1007, 1008, 1009, 1010, 1011] (by decide +kernel)
theorem gCon_in : ∀ q ∈ gCon, ∀ w ∈ gConW q, w ∈ flatC (Jvm.Cond.and given_1 narrow_1) := by
  intro q hq
  unfold gCon at hq
  simp only [List.mem_cons, List.not_mem_nil, or_false] at hq
  rcases hq with rfl | rfl | rfl | rfl | rfl | rfl | rfl | rfl | rfl | rfl | rfl | rfl | rfl | rfl | rfl | rfl | rfl | rfl | rfl | rfl | rfl | rfl
  · exact gCon_1094
  · exact gCon_1103
  · exact gCon_1104
  · exact gCon_1105
  · exact gCon_1351
  · exact gCon_1353
  · exact gCon_1354
  · exact gCon_1355
  · exact gCon_1356
  · exact gCon_1357
  · exact gCon_1358
  · exact gCon_1359
  · exact gCon_1360
  · exact gCon_1361
  · exact gCon_1485
  · exact gCon_1487
  · exact gCon_1488
  · exact gCon_1489
  · exact gCon_1490
  · exact gCon_1491
  · exact gCon_1492
  · exact gCon_1493
theorem gCon_ref : ∀ q ∈ gCon, Cond.stringRef q.2.1 q.2.2.1 q.2.2.2.1 ∈ lw_tbl := by decide +kernel
theorem gCon_fit : ∀ q ∈ gCon, q.2.2.2.2.1.length < 100 ∧ ∀ b ∈ q.2.2.2.2.1, fits .byte (.int b) = true := by decide +kernel
theorem gStrs_con : ∀ r ∈ gStrs, ∃ q ∈ gCon, q.1 = r.1 ∧ q.2.1 = r.2.1 ∧ q.2.2.1 = r.2.2.1 ∧ q.2.2.2.1 = r.2.2.2 := by decide +kernel
theorem gCon_one : ∀ q ∈ gCon, ∀ r ∈ gCon, q.1 = r.1 → q = r := by
  have h : gCon.all (fun q => gCon.all (fun r => !(q.1 == r.1) || decide (q = r))) = true := by decide +kernel
  intro q hq r hr e
  have h1 := List.all_eq_true.mp (List.all_eq_true.mp h q hq) r hr
  simpa [e] using h1
theorem gIn_ok : ∀ (k : Nat) (q : vw_C), gCl[k]? = some q → ∃ n : Nat, Cond.instantiable q.1 n ∈ lw_tbl := by
  intro k q h
  match k, h with
  | 0, h => cases h; exact ⟨22, (lw_all_tbl q154)⟩
  | 1, h => cases h; exact ⟨5, (lw_all_tbl q162)⟩
  | 2, h => cases h; exact ⟨12, (lw_all_tbl q552)⟩
  | 3, h => cases h; exact ⟨46, (lw_all_tbl q2006)⟩
  | 4, h => cases h; exact ⟨6, (lw_all_tbl q937)⟩
  | 5, h => cases h; exact ⟨8, (lw_all_tbl q1113)⟩
  | 6, h => cases h; exact ⟨3, (lw_all_tbl q1158)⟩
  | 7, h => cases h; exact ⟨2, (lw_all_tbl q1246)⟩
  | 8, h => cases h; exact ⟨2, (lw_all_tbl q1263)⟩
  | 9, h => cases h; exact ⟨5, (lw_all_tbl q1295)⟩
  | 10, h => cases h; exact ⟨1, (lw_all_tbl q1335)⟩
  | 11, h => cases h; exact ⟨1, (lw_all_tbl q539)⟩
  | 12, h => cases h; exact ⟨2, (lw_all_tbl q1429)⟩
  | 13, h => cases h; exact ⟨2, (lw_all_tbl q1438)⟩
  | 14, h => cases h; exact ⟨2, (lw_all_tbl q1402)⟩
  | 15, h => cases h; exact ⟨2, (lw_all_tbl q1411)⟩
  | 16, h => cases h; exact ⟨2, (lw_all_tbl q1420)⟩
  | 17, h => cases h; exact ⟨2, (lw_all_tbl q1374)⟩
  | 18, h => cases h; exact ⟨2, (lw_all_tbl q1390)⟩
  | 19, h => cases h; exact ⟨6, (lw_all_tbl q1454)⟩
  | 20, h => cases h; exact ⟨1, (lw_all_tbl q1500)⟩
  | 21, h => cases h; exact ⟨0, (lw_all_tbl q1524)⟩
  | 22, h => cases h; exact ⟨0, (lw_all_tbl q1531)⟩
  | 23, h => cases h; exact ⟨2, (lw_all_tbl q1538)⟩
  | 24, h => cases h; exact ⟨2, (lw_all_tbl q1551)⟩
  | 25, h => cases h; exact ⟨0, (lw_all_tbl q1564)⟩
  | 26, h => cases h; exact ⟨2, (lw_all_tbl q1578)⟩
  | 27, h => cases h; exact ⟨8, (lw_all_tbl q1678)⟩
  | 28, h => cases h; exact ⟨3, (lw_all_tbl q168)⟩
  | 29, h => cases h; exact ⟨4, (lw_all_tbl q225)⟩
  | 30, h => cases h; exact ⟨4, (lw_all_tbl q407)⟩
  | 31, h => cases h; exact ⟨6, (lw_all_tbl q184)⟩
  | 32, h => cases h; exact ⟨6, (lw_all_tbl q1750)⟩
  | k + 33, h => exact absurd h (by show ¬ (([] : List vw_C)[k]? = some q); simp)
theorem gs_cls {s : State} {args : Array Value} (hts : ∀ w ∈ lw_tbl, w.before args s = true) : ∃ (dC : Nat → ClassId) (dI : Nat → Nat → Nat), ∀ (k : Nat) (q : vw_C), gCl[k]? = some q → u_Kn s q.1 q.2.1 q.2.2 (dC k) (dI k) := by
  have h0 : ∀ (k : Nat) (q : vw_C), gCl[k]? = some q → ∃ (cC : ClassId) (iS : Nat → Nat), u_Kn s q.1 q.2.1 q.2.2 cC iS := by
    intro k q hq
    obtain ⟨n, hn⟩ := gIn_ok k q hq
    exact u_known (n := n) hts (fun w h => lw_all_tbl ((gCl_ok k q hq).1 w h)) (hts _ hn)
  obtain ⟨c0, i0, -⟩ := h0 0 _ rfl
  have h1 : ∀ k : Nat, ∃ z : ClassId × (Nat → Nat), ∀ q : vw_C, gCl[k]? = some q → u_Kn s q.1 q.2.1 q.2.2 z.1 z.2 := by
    intro k
    cases hk : gCl[k]? with
    | none => exact ⟨(c0, i0), fun q h => by cases h⟩
    | some q =>
      obtain ⟨c1, i1, h⟩ := h0 k q hk
      exact ⟨(c1, i1), fun q' h' => by cases h'; exact h⟩
  obtain ⟨f, hf⟩ := Classical.axiomOfChoice h1
  exact ⟨fun k => (f k).1, fun k => (f k).2, fun k q h => hf k q h⟩
theorem gs_ao {s : State} {args : Array Value} (h : (Cond.arrayOver (.array .int)).before args s = true) : ∃ (comp c : ClassId) (k : Class), s.vm.classes[c]? = some k ∧ k.kind = .array comp (.array .int) ∧ s.vm.findClass ("[" ++ (FieldType.array .int).toString) = some c := by
  simp only [Cond.before, Cond.holds, Cond.value, beq_iff_eq, Option.bind_eq_some_iff, Option.map_eq_some_iff] at h
  obtain ⟨comp, -, c, -, k, hk, hb⟩ := h
  cases hkind : k.kind with
  | array component ty =>
    rw [hkind] at hb
    simp at hb
    exact ⟨component, c, k, hk, by rw [hkind, hb.1], hb.2⟩
  | _ => rw [hkind] at hb; simp at hb
theorem gs_arr1 {s : State} {args : Array Value} {ty : FieldType} (hty : ∀ C, ty ≠ .object C) (h : (Cond.arrayClass ty).before args s = true) : ∃ c : ClassId, ArrOfT s c ty ∧ va_RA s c ty := by
  obtain ⟨c, k, comp, h1, h2, h3⟩ := Cond.arrayClass_spec h
  refine ⟨c, fun n z => ⟨(fun q hq => by cases hq), k, h2, comp, h3⟩, ?_⟩
  cases ty with
  | object C => exact absurd rfl (hty C)
  | _ => exact h1
theorem gs_arr2 {s : State} {args : Array Value} {C : String} (h : (Cond.arrayOver (.object C)).before args s = true) : ∃ c : ClassId, ArrOfT s c (.object C) ∧ va_RA s c (.object C) := by
  obtain ⟨comp, c, k, h1, -, h3, h4, h5⟩ := Cond.arrayOver_spec h
  exact ⟨c, fun n z => ⟨(fun q hq => by cases hq), k, h3, comp, h4⟩, k, comp, h3, h4, h1, h5⟩
theorem gs_arr3 {s : State} {args : Array Value} (h : (Cond.arrayOver (.array .int)).before args s = true) : ∃ c : ClassId, ArrOfT s c (.array .int) ∧ va_RA s c (.array .int) := by
  obtain ⟨comp, c, k, h1, h2, h3⟩ := gs_ao h
  exact ⟨c, fun n z => ⟨(fun q hq => by cases hq), k, h1, comp, h2⟩, h3⟩
/-- the classes and the arrays, known -/
theorem gs_K {s : State} {args : Array Value} (hts : ∀ w ∈ lw_tbl, w.before args s = true) : ∃ D : gD, va_K D.1 gCl (gTys D) s := by
  obtain ⟨dC, dI, hc⟩ := gs_cls hts
  obtain ⟨a0, h0⟩ := gs_arr1 (ty := .int) (fun _ h => by cases h) (hts _ (lw_all_tbl q606))
  obtain ⟨a1, h1⟩ := gs_arr1 (ty := .byte) (fun _ h => by cases h) (hts _ (lw_all_tbl q255))
  obtain ⟨a2, h2⟩ := gs_arr1 (ty := .long) (fun _ h => by cases h) (hts _ (lw_all_tbl q2167))
  obtain ⟨a3, h3⟩ := gs_arr2 (hts _ q180)
  obtain ⟨a4, h4⟩ := gs_arr2 (hts _ q607)
  obtain ⟨a5, h5⟩ := gs_arr3 (hts _ q2012)
  refine ⟨((dC, dI), fun k => match k with | 0 => a0 | 1 => a1 | 2 => a2 | 3 => a3 | 4 => a4 | _ => a5), hc, ?_⟩
  intro k q hq
  match k, hq with
  | 0, hq => cases hq; exact h0
  | 1, hq => cases hq; exact h1
  | 2, hq => cases hq; exact h2
  | 3, hq => cases hq; exact h3
  | 4, hq => cases hq; exact h4
  | 5, hq => cases hq; exact h5
  | k + 6, hq => simp [gTys] at hq
def gObj (adV : Nat → Nat) (q : Nat × String × Nat × String × List Int32 × Int32) : gE := (false, .inl (30, [.ref (adV q.1), .int 0, .int q.2.2.2.2.2, .int 0]))
def gArr (q : Nat × String × Nat × String × List Int32 × Int32) : gE := (false, .inr (1, q.2.2.2.2.1.length, .inl (fun j => q.2.2.2.2.1.getD j 0)))
/-- one constant, as the start has it -/
theorem gs_con {s : State} {args : Array Value} {D : gD} (hs : ∀ w ∈ flatC (Jvm.Cond.and given_1 narrow_1), w.before args s = true) (hK : va_K D.1 gCl (gTys D) s) (q : Nat × String × Nat × String × List Int32 × Int32) (hq : q ∈ gCon) :
    ∃ a av : Nat, (Term.string q.2.1 q.2.2.1).eval args s none [] s = some (.ref a) ∧ a < s.heap.size ∧ av < s.heap.size ∧ gAt D a (false, .inl (30, [.ref av, .int 0, .int q.2.2.2.2.2, .int 0])) s.heap ∧ gAt D av (gArr q) s.heap := by
  have hw : ∀ w ∈ gConW q, w.before args s = true := fun w h => hs w (gCon_in q hq w h)
  obtain ⟨hlen, hfit⟩ := gCon_fit q hq
  have e1 := hw (.exactly (.string q.2.1 q.2.2.1) "java/lang/String") (by simp [gConW])
  have e2 := va_eqt (hw (.eq (.field (.string q.2.1 q.2.2.1) "java/lang/String" "coder" "B") (.int 0)) (by simp [gConW]))
  have e3 := hw (.arrayOf (.field (.string q.2.1 q.2.2.1) "java/lang/String" "value" "[B") .byte) (by simp [gConW])
  have e4 := va_eqt (hw (.eq (.length (.field (.string q.2.1 q.2.2.1) "java/lang/String" "value" "[B")) (.int (Int32.ofNat q.2.2.2.2.1.length))) (by simp [gConW]))
  have e5 := va_eqt (hw (.eq (.field (.string q.2.1 q.2.2.1) "java/lang/String" "hash" "I") (.int q.2.2.2.2.2)) (by simp [gConW]))
  have e6 := va_eqt (hw (.eq (.field (.string q.2.1 q.2.2.1) "java/lang/String" "hashIsZero" "Z") (.int 0)) (by simp [gConW]))
  have e7 := hw (.exactly (.field (.string q.2.1 q.2.2.1) "java/lang/String" "value" "[B") "[B") (by simp [gConW])
  have e8 : ∀ j : Nat, j < q.2.2.2.2.1.length → (Term.elem (.field (.string q.2.1 q.2.2.1) "java/lang/String" "value" "[B") (.int (Int32.ofNat j))).eval args s none [] s = some (.int (q.2.2.2.2.1.getD j 0)) := fun j hj => va_eqt (hw _ (by
    unfold gConW
    exact List.mem_append_right _ (List.mem_map.mpr ⟨j, List.mem_range.mpr hj, rfl⟩)))
  have hA : ∀ a : Nat, a < s.heap.size → ¬ (fun _ : Nat => False) a := fun _ _ h => h
  obtain ⟨a, c, cA, kA, f1, f2, f3, f4, f5, f6, -⟩ := Cond.exactly_spec e1
  obtain ⟨av, g1, cv, g2, g3, g4, g5, g6, g7, -⟩ := va_Tof (f := fun j => .int (q.2.2.2.2.1.getD j 0)) (A := fun _ => False) (Nat.lt_trans hlen (by decide)) e3 e4 e8 hA
  obtain ⟨av2, c2, cA2, kA2, h1, h2, h3, h4, h5, h6, -⟩ := Cond.exactly_spec e7
  have hav : av2 = av := by
    have := h1.symm.trans g1
    exact Value.ref.inj (Option.some.inj this)
  subst hav
  cases h3.symm.trans g2
  obtain ⟨hS, hC, kC, hkC, hord⟩ := hK.1 30 _ rfl
  have hcls : cA.cls = D.1.1 30 := by rw [f6]; exact Option.some.inj (f2.symm.trans hC)
  have hfld : ∀ (k : Nat) (o n d : String) (v : Value), (TJ9 k).1 = o → (TJ9 k).2.1 = n → (TJ9 k).2.2.1 = d → k < 4 → (Term.field (.string q.2.1 q.2.2.1) o n d).eval args s none [] s = some v → cA.slots[D.1.2 30 k]? = some v ∧ cA.vm ≠ .unknown := by
    intro k o n d v r1 r2 r3 hk hv
    obtain ⟨cf, kf, fi, f, cell, u1, u2, u3, u4, u5, -⟩ := vk_OFof (A := fun _ => False) f1 hv hA
    obtain ⟨cf2, kf2, fi2, fd2, w1, w2⟩ := hS k hk
    cases u3.symm.trans f3
    have w1 : s.fieldFound? o n d = some (cf2, kf2, fi2, fd2) := by rw [← r1, ← r2, ← r3]; exact w1
    cases u1.symm.trans w1
    rw [← w2]
    exact ⟨u5, u4⟩
  have v0 := hfld 0 "java/lang/String" "value" "[B" (.ref av2) rfl rfl rfl (by decide) g1
  have v1 := hfld 1 "java/lang/String" "coder" "B" (.int 0) rfl rfl rfl (by decide) e2
  have v2 := hfld 2 "java/lang/String" "hash" "I" (.int q.2.2.2.2.2) rfl rfl rfl (by decide) e5
  have v3 := hfld 3 "java/lang/String" "hashIsZero" "Z" (.int 0) rfl rfl rfl (by decide) e6
  have hRA := (hK.2 1 _ rfl).2
  have hcv : cv.cls = D.2 1 := by
    rw [h6]
    have e : s.vm.findClass "[B" = some (D.2 1) := hRA
    exact Option.some.inj (h2.symm.trans e)
  refine ⟨a, av2, f1, (Array.getElem?_eq_some_iff.mp f3).1, (Array.getElem?_eq_some_iff.mp g2).1, ⟨_, rfl, cA, f3, hcls, f5, v0.2, (fun h => by cases h), ?_⟩, (by decide : 1 < 6), ?_, cv, g2, hcv, h5, g4, (fun h => by cases h), ⟨g5, g6⟩, ?_⟩
  · intro k hk
    match k, hk with
    | 0, _ => exact v0.1
    | 1, _ => exact v1.1
    | 2, _ => exact v2.1
    | 3, _ => exact v3.1
  · intro _ f hf j
    cases hf
    show fits .byte (.int (q.2.2.2.2.1.getD j 0)) = true
    rw [List.getD_eq_getElem?_getD]
    cases hj : q.2.2.2.2.1[j]? with
    | none => rfl
    | some b => exact hfit b (List.mem_of_getElem? hj)
  · intro j hj
    rw [g7 j hj]
    show _ = (arrV (D.2 1) q.2.2.2.2.1.length (fun j => .int (q.2.2.2.2.1.getD j 0))).slots[j]?
    rw [arrV_read _ _ hj]
/-- what the start state is -/
def gStart (K : gK) (S : gS) : Prop := S.2.1 = K.1 ∧ S.2.2.1 = 0 ∧ S.2.2.2 = K ∧ (∃ mi : Nat, K.2.2 2 = some mi) ∧ (∀ a, K.1 ≤ a → S.1 a = none) ∧ ∃ adV : Nat → Nat, ∀ q ∈ gCon, K.2.1 q.1 < K.1 ∧ adV q.1 < K.1 ∧ S.1 (K.2.1 q.1) = some (gObj adV q) ∧ S.1 (adV q.1) = some (gArr q)
theorem gs_uniO {D : gD} {a : Nat} {H : Heap} {x0 x1 x2 x3 y0 y1 y2 y3 : Value} (h1 : gAt D a (false, .inl (30, [x0, x1, x2, x3])) H) (h2 : gAt D a (false, .inl (30, [y0, y1, y2, y3])) H) : x0 = y0 ∧ x1 = y1 ∧ x2 = y2 ∧ x3 = y3 := by
  obtain ⟨r, e1, c, e2, -, -, -, -, e3⟩ := h1
  obtain ⟨r2, f1, c2, f2, -, -, -, -, f3⟩ := h2
  cases f1.symm.trans e1
  cases f2.symm.trans e2
  cases e1
  have g : ∀ k, k < 4 → vp_V [x0, x1, x2, x3] k = vp_V [y0, y1, y2, y3] k := fun k hk => Option.some.inj ((e3 k hk).symm.trans (f3 k hk))
  exact ⟨g 0 (by decide), g 1 (by decide), g 2 (by decide), g 3 (by decide)⟩
theorem gs_apart {s : State} {D : gD} {a : Nat} {fs : List Value} {x : vp_A} (hK : va_K D.1 gCl (gTys D) s) (h1 : gAt D a (false, .inl (30, fs)) s.heap) (h2 : gAt D a (false, .inr (1, x)) s.heap) : False := by
  obtain ⟨r, e1, c, e2, e3, -⟩ := h1
  obtain ⟨-, -, c2, f2, f3, -⟩ := h2
  cases f2.symm.trans e2
  obtain ⟨-, -, kC, hkC, hord⟩ := hK.1 30 _ rfl
  obtain ⟨-, k, hk, comp, hkind⟩ := (hK.2 1 _ rfl).1 0 (fun _ => .null)
  have hk : s.vm.classes[D.2 1]? = some k := hk
  have he : D.1.1 30 = D.2 1 := e3.symm.trans f3
  rw [he] at hkC
  cases hk.symm.trans hkC
  rw [hord] at hkind
  cases hkind
theorem gs_uniA {D : gD} {a : Nat} {H : Heap} {q r : Nat × String × Nat × String × List Int32 × Int32} (hq : q ∈ gCon) (hr : r ∈ gCon) (h1 : gAt D a (gArr q) H) (h2 : gAt D a (gArr r) H) : gArr q = gArr r := by
  obtain ⟨-, -, c, e2, -, -, -, -, ⟨e3, e4⟩, e5⟩ := h1
  obtain ⟨-, -, c2, f2, -, -, -, -, ⟨f3, f4⟩, f5⟩ := h2
  cases f2.symm.trans e2
  have hl : Int32.ofNat q.2.2.2.2.1.length = Int32.ofNat r.2.2.2.2.1.length := e4.symm.trans f4
  have hlen : q.2.2.2.2.1.length = r.2.2.2.2.1.length := by
    have a1 := (gCon_fit q hq).1
    have a2 := (gCon_fit r hr).1
    have := congrArg Int32.toInt hl
    rw [Int32.toInt_ofNat_of_lt (by omega), Int32.toInt_ofNat_of_lt (by omega)] at this
    omega
  unfold gArr
  rw [hlen]
  congr 5
  funext j
  by_cases hj : j < q.2.2.2.2.1.length
  · have g1 := e5 j hj
    have g2 := f5 j (by show j < r.2.2.2.2.1.length; omega)
    rw [g1] at g2
    have g3 : (arrV (D.2 1) q.2.2.2.2.1.length (fun j => .int (q.2.2.2.2.1.getD j 0))).slots[j]? = (arrV (D.2 1) r.2.2.2.2.1.length (fun j => .int (r.2.2.2.2.1.getD j 0))).slots[j]? := g2
    rw [arrV_read _ _ hj, arrV_read _ _ (by omega)] at g3
    exact Value.int.inj (Option.some.inj g3)
  · rw [List.getD_eq_getElem?_getD, List.getD_eq_getElem?_getD, List.getElem?_eq_none (by omega), List.getElem?_eq_none (by omega)]
/-- the start, abstract -/
theorem gs_state {s : State} {args : Array Value} {D : gD} (hs : ∀ w ∈ flatC (Jvm.Cond.and given_1 narrow_1), w.before args s = true) (hK : va_K D.1 gCl (gTys D) s) (st : Nat → Option Nat) (mi : Nat) (hmi : st 2 = some mi) :
    ∃ (adK : Nat → Nat) (S : gS), gStart (s.heap.size, adK, st) S ∧ gH D (s.heap.size, adK, st) S s.heap ∧ ∀ q ∈ gCon, (Term.string q.2.1 q.2.2.1).eval args s none [] s = some (.ref (adK q.1)) := by
  have h0 : ∀ p : Nat, ∃ z : Nat × Nat, ∀ q ∈ gCon, q.1 = p → (Term.string q.2.1 q.2.2.1).eval args s none [] s = some (.ref z.1) ∧ z.1 < s.heap.size ∧ z.2 < s.heap.size ∧ gAt D z.1 (false, .inl (30, [.ref z.2, .int 0, .int q.2.2.2.2.2, .int 0])) s.heap ∧ gAt D z.2 (gArr q) s.heap := by
    intro p
    by_cases hp : ∃ q, q ∈ gCon ∧ q.1 = p
    · obtain ⟨q, hq, hqp⟩ := hp
      obtain ⟨a, av, h⟩ := gs_con hs hK q hq
      refine ⟨(a, av), fun r hr hrp => ?_⟩
      cases gCon_one r hr q hq (hrp.trans hqp.symm)
      exact h
    · exact ⟨(0, 0), fun q hq hqp => absurd ⟨q, hq, hqp⟩ hp⟩
  obtain ⟨z, hz⟩ := Classical.axiomOfChoice h0
  have hz1 := fun q hq => hz (q : Nat × String × Nat × String × List Int32 × Int32).1 q hq rfl
  let P : Nat → gE → Prop := fun a e => ∃ q ∈ gCon, (a = (z q.1).1 ∧ e = gObj (fun p => (z p).2) q) ∨ (a = (z q.1).2 ∧ e = gArr q)
  let M : Nat → Option gE := fun a => @dite (Option gE) (∃ e, P a e) (Classical.propDecidable _) (fun h => some (Classical.choose h)) (fun _ => none)
  have hM1 : ∀ a e, M a = some e → P a e := by
    intro a e h
    by_cases hp : ∃ e, P a e
    · have h2 : M a = some (Classical.choose hp) := dif_pos hp
      cases h2.symm.trans h
      exact Classical.choose_spec hp
    · have h2 : M a = none := dif_neg hp
      rw [h2] at h
      cases h
  have hM2 : ∀ a e, P a e → ∃ e', M a = some e' := fun a e h => ⟨_, dif_pos ⟨e, h⟩⟩
  have hPat : ∀ a e, P a e → gAt D a e s.heap ∧ a < s.heap.size ∧ e.1 = false := by
    intro a e h
    obtain ⟨q, hq, ⟨h1, h2⟩ | ⟨h1, h2⟩⟩ := h
    · subst h1; subst h2
      exact ⟨(hz1 q hq).2.2.2.1, (hz1 q hq).2.1, rfl⟩
    · subst h1; subst h2
      exact ⟨(hz1 q hq).2.2.2.2, (hz1 q hq).2.2.1, rfl⟩
  have huni : ∀ a e e', P a e → P a e' → e = e' := by
    intro a e e' h h'
    have g1 := (hPat a e h).1
    have g2 := (hPat a e' h').1
    obtain ⟨q, hq, ⟨-, h2⟩ | ⟨-, h2⟩⟩ := h
    · obtain ⟨r, hr, ⟨-, f2⟩ | ⟨-, f2⟩⟩ := h'
      · subst h2; subst f2
        obtain ⟨i1, i2, i3, i4⟩ := gs_uniO g1 g2
        unfold gObj
        rw [i1, i2, i3, i4]
      · subst h2; subst f2
        exact (gs_apart hK g1 g2).elim
    · obtain ⟨r, hr, ⟨-, f2⟩ | ⟨-, f2⟩⟩ := h'
      · subst h2; subst f2
        exact (gs_apart hK g2 g1).elim
      · subst h2; subst f2
        exact gs_uniA hq hr g1 g2
  have hM3 : ∀ a e, P a e → M a = some e := by
    intro a e h
    obtain ⟨e', he⟩ := hM2 a e h
    rw [he, huni a e e' h (hM1 a e' he)]
  refine ⟨fun p => (z p).1, (M, s.heap.size, 0, s.heap.size, (fun p => (z p).1), st), ⟨rfl, rfl, rfl, ⟨mi, hmi⟩, ?_, fun p => (z p).2, ?_⟩, ⟨rfl, rfl, Nat.le_add_right _ _, Nat.zero_le _, ?_⟩, fun q hq => (hz1 q hq).1⟩
  · intro a ha
    cases hMa : M a with
    | none => exact hMa
    | some e => exact absurd (hPat a e (hM1 a e hMa)).2.1 (Nat.not_lt.mpr ha)
  · intro q hq
    exact ⟨(hz1 q hq).2.1, (hz1 q hq).2.2.1, hM3 _ _ ⟨q, hq, Or.inl ⟨rfl, rfl⟩⟩, hM3 _ _ ⟨q, hq, Or.inr ⟨rfl, rfl⟩⟩⟩
  · intro a e h
    obtain ⟨h1, h2, h3⟩ := hPat a e (hM1 a e h)
    exact ⟨h1, fun h => by rw [h3] at h; cases h⟩
theorem gs_flags {l : Launch} (h : l.flags = flags0) : l.stackTraces = false := by
  unfold Launch.stackTraces
  rw [h]
  decide +kernel
theorem gs_tab (es : List ExceptionTableEntry) : ∃ hh : List (Nat × Nat × Nat × Nat), es = tableOf hh := by
  refine ⟨es.map fun x => (x.startPc, x.endPc, x.handlerPc, x.catchType), ?_⟩
  unfold tableOf
  rw [List.map_map]
  exact (List.map_id _).symm
theorem gs_q {s : State} {n d : String} {A : Nat → Prop} (h : vx_Zq Bundle.tN n d A s s.heap) : ∃ r : Option Nat, va_Z Bundle.tN n d (va_rf r) A s s.heap ∧ vx_L Bundle.tN n d A s s.heap := by
  obtain ⟨h1 | ⟨t, h1⟩, h2⟩ := h
  · exact ⟨none, h1, h2⟩
  · exact ⟨some t, h1, h2⟩
theorem gs_enter {p : Program} {s : State} {m : MethodId} {meth : Method} {c : Code} (l : Launch) (hflags : l.flags = flags0) {b L : Nat} {xs : Nat → Int32} (C0 : lw_At p s m meth c b L xs) :
    ∃ (D : gD) (K : gK) (S : gS) (hh : List (Nat × Nat × Nat × Nat)), gStart K S ∧ gH D K S s.heap ∧ gCx p l room_1 s m #[Value.ref b] meth c D K RX0 cL_law 8 (some .boolean) hh meth.name 0 ∧ gLaw room_1 K s 0 #[Value.ref b] b L xs := by
  obtain ⟨hx, hc, hr, hml, hown, hts, hX, hbl, hlk, hgv⟩ := C0
  have hs := flat_of_before _ hgv
  obtain ⟨D, hK⟩ := gs_K hts
  have hA : ∀ a : Nat, a < s.heap.size → ¬ (fun q : Nat => s.heap.size ≤ q) a := fun a h h2 => absurd h (Nat.not_lt.mpr h2)
  obtain ⟨r0, u0, u1⟩ := gs_q (vx_Zqof (A := fun q : Nat => s.heap.size ≤ q) (hts _ q210) (hts _ (lw_all_tbl q104)) (hs _ (by decide +kernel) : (Cond.isRef (.static Bundle.tN "UNASSIGNED_STACK" Bundle.steD)).before #[Value.ref b] s = true) hA)
  obtain ⟨r1, n0, n1⟩ := gs_q (vx_Zqof (A := fun q : Nat => s.heap.size ≤ q) (hts _ q212) (hts _ (lw_all_tbl q104)) (hs _ (by decide +kernel) : (Cond.isRef (.static Bundle.tN "SUPPRESSED_SENTINEL" Bundle.listD)).before #[Value.ref b] s = true) hA)
  have hcs := va_Zof (A := fun q : Nat => s.heap.size ≤ q) (hts _ q234) (hts _ (lw_all_tbl q110)) (va_eqt (hs (.eq (.static "java/lang/String" "COMPACT_STRINGS" "Z") (.int 1)) (by decide +kernel))) hA
  obtain ⟨mi, hmi⟩ := va_Mi.of (C := "[Ljava/lang/Object;") (hs _ (by decide +kernel))
  obtain ⟨adK, S, g1, g2, g3⟩ := gs_state hs hK (fun i => if i = 0 then r0 else if i = 1 then r1 else some mi) mi rfl
  obtain ⟨hh, hhh⟩ := gs_tab c.exceptionTable.toList
  refine ⟨D, _, S, hh, g1, g2, ⟨hx, hc, hml, hown, hr, hlk, hhh, fun w hw => hts w (lw_all_tbl hw), ⟨hK, fun w hw hc => va_Nw.of (gCw_tab hc) (hts w hw), Nat.le_refl _, ?_, hcs, ⟨u0, u1⟩, ⟨n0, n1⟩, va_AO.of (hts _ q180), va_AO.of (hts _ q607), ?_, ⟨mi, rfl, hmi⟩, ?_, ?_⟩, ?_, rfl, gs_flags hflags, rfl⟩, rfl, rfl, rfl, rfl, hX, hbl⟩
  · intro q hq
    obtain ⟨r, hr, e1, e2, e3, e4⟩ := gStrs_con q hq
    have h1 := hts _ (gCon_ref r hr)
    have h2 := g3 r hr
    rw [e2, e3, e4] at h1
    rw [e1, e2, e3] at h2
    exact vk_R.of h1 h2
  · exact hts _ q2012
  · exact va_Nw.of rfl (g_selP (y := ⟨"java/lang/AbstractStringBuilder", "ensureCapacityInternal", "(I)V"⟩) (by decide) (hts _ (lw_all_tbl q306)) rfl (hts _ q269) (hts _ (lw_all_tbl q270)))
  · exact va_Nc.of (hs _ (by decide +kernel))
  · show 601024 = s.heap.size + 601024 - s.heap.size
    omega
