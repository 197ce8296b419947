/-! ===== SOUNDNESS, 23: all methods ===== -/
def sn_P1 (k : Nat) : Prop := (pm_prog.2 k).2.2.1 = 1000 ∨ (pm_prog.2 k).1 0 = [] ∨ (sn_chk k ∧ sn_gd k)
theorem sn_at {c i : Nat} (hi : i < 64) : pm_prog.2 (64 * c + i) = (pm_all.getD c []).getD i pm_m0 := by
  have e1 : (64 * c + i) / 64 = c := by omega
  have e2 : (64 * c + i) % 64 = i := by omega
  show (pm_all.getD ((64 * c + i) / 64) []).getD ((64 * c + i) % 64) pm_m0 = _
  rw [e1, e2]
theorem sn_out {c i n : Nat} (hn : (pm_all.getD c []).length = n) (hi : i < 64) (h : n ≤ i) : sn_P1 (64 * c + i) := by
  refine Or.inr (Or.inl ?_)
  rw [sn_at hi]
  have e : (pm_all.getD c [])[i]? = none := List.getElem?_eq_none (by omega)
  rw [List.getD_eq_getElem?_getD, e]; rfl
theorem al0 (i : Nat) (hi : i < 64) : sn_P1 (64 * 0 + i) := by
  rcases Nat.lt_or_ge i 2 with h | h
  · match i, h with
    | 0, _ => exact Or.inl rfl
    | 1, _ => exact Or.inr (Or.inr ⟨ch1, gd1⟩)
    | q + 2, h => exact absurd h (by omega)
  · exact sn_out (c := 0) (n := 2) rfl hi h
theorem al1 (i : Nat) (hi : i < 64) : sn_P1 (64 * 1 + i) := by
  rcases Nat.lt_or_ge i 33 with h | h
  · match i, h with
    | 0, _ => exact Or.inr (Or.inr ⟨ch64, gd64⟩)
    | 1, _ => exact Or.inr (Or.inr ⟨ch65, gd65⟩)
    | 2, _ => exact Or.inr (Or.inr ⟨ch66, gd66⟩)
    | 3, _ => exact Or.inr (Or.inr ⟨ch67, gd67⟩)
    | 4, _ => exact Or.inr (Or.inr ⟨ch68, gd68⟩)
    | 5, _ => exact Or.inr (Or.inr ⟨ch69, gd69⟩)
    | 6, _ => exact Or.inr (Or.inr ⟨ch70, gd70⟩)
    | 7, _ => exact Or.inr (Or.inr ⟨ch71, gd71⟩)
    | 8, _ => exact Or.inr (Or.inr ⟨ch72, gd72⟩)
    | 9, _ => exact Or.inr (Or.inr ⟨ch73, gd73⟩)
    | 10, _ => exact Or.inr (Or.inr ⟨ch74, gd74⟩)
    | 11, _ => exact Or.inr (Or.inr ⟨ch75, gd75⟩)
    | 12, _ => exact Or.inr (Or.inr ⟨ch76, gd76⟩)
    | 13, _ => exact Or.inr (Or.inr ⟨ch77, gd77⟩)
    | 14, _ => exact Or.inr (Or.inr ⟨ch78, gd78⟩)
    | 15, _ => exact Or.inr (Or.inr ⟨ch79, gd79⟩)
    | 16, _ => exact Or.inr (Or.inr ⟨ch80, gd80⟩)
    | 17, _ => exact Or.inr (Or.inr ⟨ch81, gd81⟩)
    | 18, _ => exact Or.inr (Or.inr ⟨ch82, gd82⟩)
    | 19, _ => exact Or.inr (Or.inr ⟨ch83, gd83⟩)
    | 20, _ => exact Or.inr (Or.inr ⟨ch84, gd84⟩)
    | 21, _ => exact Or.inr (Or.inr ⟨ch85, gd85⟩)
    | 22, _ => exact Or.inr (Or.inr ⟨ch86, gd86⟩)
    | 23, _ => exact Or.inr (Or.inr ⟨ch87, gd87⟩)
    | 24, _ => exact Or.inr (Or.inr ⟨ch88, gd88⟩)
    | 25, _ => exact Or.inr (Or.inr ⟨ch89, gd89⟩)
    | 26, _ => exact Or.inr (Or.inr ⟨ch90, gd90⟩)
    | 27, _ => exact Or.inr (Or.inr ⟨ch91, gd91⟩)
    | 28, _ => exact Or.inr (Or.inr ⟨ch92, gd92⟩)
    | 29, _ => exact Or.inr (Or.inr ⟨ch93, gd93⟩)
    | 30, _ => exact Or.inr (Or.inr ⟨ch94, gd94⟩)
    | 31, _ => exact Or.inr (Or.inr ⟨ch95, gd95⟩)
    | 32, _ => exact Or.inr (Or.inr ⟨ch96, gd96⟩)
    | q + 33, h => exact absurd h (by omega)
  · exact sn_out (c := 1) (n := 33) rfl hi h
theorem al2 (i : Nat) (hi : i < 64) : sn_P1 (64 * 2 + i) := by
  rcases Nat.lt_or_ge i 23 with h | h
  · match i, h with
    | 0, _ => exact Or.inr (Or.inr ⟨ch128, gd128⟩)
    | 1, _ => exact Or.inr (Or.inr ⟨ch129, gd129⟩)
    | 2, _ => exact Or.inr (Or.inr ⟨ch130, gd130⟩)
    | 3, _ => exact Or.inr (Or.inr ⟨ch131, gd131⟩)
    | 4, _ => exact Or.inr (Or.inr ⟨ch132, gd132⟩)
    | 5, _ => exact Or.inr (Or.inr ⟨ch133, gd133⟩)
    | 6, _ => exact Or.inr (Or.inr ⟨ch134, gd134⟩)
    | 7, _ => exact Or.inr (Or.inr ⟨ch135, gd135⟩)
    | 8, _ => exact Or.inr (Or.inr ⟨ch136, gd136⟩)
    | 9, _ => exact Or.inr (Or.inr ⟨ch137, gd137⟩)
    | 10, _ => exact Or.inr (Or.inr ⟨ch138, gd138⟩)
    | 11, _ => exact Or.inr (Or.inr ⟨ch139, gd139⟩)
    | 12, _ => exact Or.inr (Or.inr ⟨ch140, gd140⟩)
    | 13, _ => exact Or.inr (Or.inr ⟨ch141, gd141⟩)
    | 14, _ => exact Or.inr (Or.inr ⟨ch142, gd142⟩)
    | 15, _ => exact Or.inr (Or.inr ⟨ch143, gd143⟩)
    | 16, _ => exact Or.inr (Or.inr ⟨ch144, gd144⟩)
    | 17, _ => exact Or.inr (Or.inr ⟨ch145, gd145⟩)
    | 18, _ => exact Or.inr (Or.inr ⟨ch146, gd146⟩)
    | 19, _ => exact Or.inr (Or.inr ⟨ch147, gd147⟩)
    | 20, _ => exact Or.inr (Or.inr ⟨ch148, gd148⟩)
    | 21, _ => exact Or.inr (Or.inr ⟨ch149, gd149⟩)
    | 22, _ => exact Or.inr (Or.inr ⟨ch150, gd150⟩)
    | q + 23, h => exact absurd h (by omega)
  · exact sn_out (c := 2) (n := 23) rfl hi h
theorem al3 (i : Nat) (hi : i < 64) : sn_P1 (64 * 3 + i) := by
  rcases Nat.lt_or_ge i 9 with h | h
  · match i, h with
    | 0, _ => exact Or.inr (Or.inr ⟨ch192, gd192⟩)
    | 1, _ => exact Or.inr (Or.inr ⟨ch193, gd193⟩)
    | 2, _ => exact Or.inr (Or.inr ⟨ch194, gd194⟩)
    | 3, _ => exact Or.inr (Or.inr ⟨ch195, gd195⟩)
    | 4, _ => exact Or.inr (Or.inr ⟨ch196, gd196⟩)
    | 5, _ => exact Or.inr (Or.inr ⟨ch197, gd197⟩)
    | 6, _ => exact Or.inr (Or.inr ⟨ch198, gd198⟩)
    | 7, _ => exact Or.inr (Or.inr ⟨ch199, gd199⟩)
    | 8, _ => exact Or.inr (Or.inr ⟨ch200, gd200⟩)
    | q + 9, h => exact absurd h (by omega)
  · exact sn_out (c := 3) (n := 9) rfl hi h
theorem al4 (i : Nat) (hi : i < 64) : sn_P1 (64 * 4 + i) := by
  rcases Nat.lt_or_ge i 37 with h | h
  · match i, h with
    | 0, _ => exact Or.inr (Or.inr ⟨ch256, gd256⟩)
    | 1, _ => exact Or.inr (Or.inr ⟨ch257, gd257⟩)
    | 2, _ => exact Or.inr (Or.inr ⟨ch258, gd258⟩)
    | 3, _ => exact Or.inr (Or.inr ⟨ch259, gd259⟩)
    | 4, _ => exact Or.inr (Or.inr ⟨ch260, gd260⟩)
    | 5, _ => exact Or.inr (Or.inr ⟨ch261, gd261⟩)
    | 6, _ => exact Or.inr (Or.inr ⟨ch262, gd262⟩)
    | 7, _ => exact Or.inr (Or.inr ⟨ch263, gd263⟩)
    | 8, _ => exact Or.inr (Or.inr ⟨ch264, gd264⟩)
    | 9, _ => exact Or.inr (Or.inr ⟨ch265, gd265⟩)
    | 10, _ => exact Or.inr (Or.inr ⟨ch266, gd266⟩)
    | 11, _ => exact Or.inr (Or.inr ⟨ch267, gd267⟩)
    | 12, _ => exact Or.inr (Or.inr ⟨ch268, gd268⟩)
    | 13, _ => exact Or.inr (Or.inr ⟨ch269, gd269⟩)
    | 14, _ => exact Or.inr (Or.inr ⟨ch270, gd270⟩)
    | 15, _ => exact Or.inr (Or.inr ⟨ch271, gd271⟩)
    | 16, _ => exact Or.inr (Or.inr ⟨ch272, gd272⟩)
    | 17, _ => exact Or.inr (Or.inr ⟨ch273, gd273⟩)
    | 18, _ => exact Or.inr (Or.inr ⟨ch274, gd274⟩)
    | 19, _ => exact Or.inr (Or.inr ⟨ch275, gd275⟩)
    | 20, _ => exact Or.inr (Or.inr ⟨ch276, gd276⟩)
    | 21, _ => exact Or.inr (Or.inr ⟨ch277, gd277⟩)
    | 22, _ => exact Or.inr (Or.inr ⟨ch278, gd278⟩)
    | 23, _ => exact Or.inr (Or.inr ⟨ch279, gd279⟩)
    | 24, _ => exact Or.inr (Or.inr ⟨ch280, gd280⟩)
    | 25, _ => exact Or.inr (Or.inr ⟨ch281, gd281⟩)
    | 26, _ => exact Or.inr (Or.inr ⟨ch282, gd282⟩)
    | 27, _ => exact Or.inr (Or.inr ⟨ch283, gd283⟩)
    | 28, _ => exact Or.inr (Or.inr ⟨ch284, gd284⟩)
    | 29, _ => exact Or.inr (Or.inr ⟨ch285, gd285⟩)
    | 30, _ => exact Or.inr (Or.inr ⟨ch286, gd286⟩)
    | 31, _ => exact Or.inr (Or.inr ⟨ch287, gd287⟩)
    | 32, _ => exact Or.inr (Or.inr ⟨ch288, gd288⟩)
    | 33, _ => exact Or.inr (Or.inr ⟨ch289, gd289⟩)
    | 34, _ => exact Or.inr (Or.inr ⟨ch290, gd290⟩)
    | 35, _ => exact Or.inr (Or.inr ⟨ch291, gd291⟩)
    | 36, _ => exact Or.inr (Or.inr ⟨ch292, gd292⟩)
    | q + 37, h => exact absurd h (by omega)
  · exact sn_out (c := 4) (n := 37) rfl hi h
theorem al5 (i : Nat) (hi : i < 64) : sn_P1 (64 * 5 + i) := by
  rcases Nat.lt_or_ge i 10 with h | h
  · match i, h with
    | 0, _ => exact Or.inr (Or.inr ⟨ch320, gd320⟩)
    | 1, _ => exact Or.inr (Or.inr ⟨ch321, gd321⟩)
    | 2, _ => exact Or.inr (Or.inr ⟨ch322, gd322⟩)
    | 3, _ => exact Or.inr (Or.inr ⟨ch323, gd323⟩)
    | 4, _ => exact Or.inr (Or.inr ⟨ch324, gd324⟩)
    | 5, _ => exact Or.inr (Or.inr ⟨ch325, gd325⟩)
    | 6, _ => exact Or.inr (Or.inr ⟨ch326, gd326⟩)
    | 7, _ => exact Or.inr (Or.inr ⟨ch327, gd327⟩)
    | 8, _ => exact Or.inr (Or.inr ⟨ch328, gd328⟩)
    | 9, _ => exact Or.inr (Or.inr ⟨ch329, gd329⟩)
    | q + 10, h => exact absurd h (by omega)
  · exact sn_out (c := 5) (n := 10) rfl hi h
theorem al6 (i : Nat) (hi : i < 64) : sn_P1 (64 * 6 + i) := by
  rcases Nat.lt_or_ge i 1 with h | h
  · match i, h with
    | 0, _ => exact Or.inr (Or.inr ⟨ch384, gd384⟩)
    | q + 1, h => exact absurd h (by omega)
  · exact sn_out (c := 6) (n := 1) rfl hi h
theorem al7 (i : Nat) (hi : i < 64) : sn_P1 (64 * 7 + i) := by
  rcases Nat.lt_or_ge i 6 with h | h
  · match i, h with
    | 0, _ => exact Or.inr (Or.inr ⟨ch448, gd448⟩)
    | 1, _ => exact Or.inr (Or.inr ⟨ch449, gd449⟩)
    | 2, _ => exact Or.inr (Or.inr ⟨ch450, gd450⟩)
    | 3, _ => exact Or.inr (Or.inr ⟨ch451, gd451⟩)
    | 4, _ => exact Or.inr (Or.inr ⟨ch452, gd452⟩)
    | 5, _ => exact Or.inr (Or.inr ⟨ch453, gd453⟩)
    | q + 6, h => exact absurd h (by omega)
  · exact sn_out (c := 7) (n := 6) rfl hi h
theorem al8 (i : Nat) (hi : i < 64) : sn_P1 (64 * 8 + i) := by
  rcases Nat.lt_or_ge i 34 with h | h
  · match i, h with
    | 0, _ => exact Or.inr (Or.inr ⟨ch512, gd512⟩)
    | 1, _ => exact Or.inr (Or.inr ⟨ch513, gd513⟩)
    | 2, _ => exact Or.inr (Or.inr ⟨ch514, gd514⟩)
    | 3, _ => exact Or.inr (Or.inr ⟨ch515, gd515⟩)
    | 4, _ => exact Or.inr (Or.inr ⟨ch516, gd516⟩)
    | 5, _ => exact Or.inr (Or.inr ⟨ch517, gd517⟩)
    | 6, _ => exact Or.inr (Or.inr ⟨ch518, gd518⟩)
    | 7, _ => exact Or.inr (Or.inr ⟨ch519, gd519⟩)
    | 8, _ => exact Or.inr (Or.inr ⟨ch520, gd520⟩)
    | 9, _ => exact Or.inr (Or.inr ⟨ch521, gd521⟩)
    | 10, _ => exact Or.inr (Or.inr ⟨ch522, gd522⟩)
    | 11, _ => exact Or.inr (Or.inr ⟨ch523, gd523⟩)
    | 12, _ => exact Or.inr (Or.inr ⟨ch524, gd524⟩)
    | 13, _ => exact Or.inr (Or.inr ⟨ch525, gd525⟩)
    | 14, _ => exact Or.inr (Or.inr ⟨ch526, gd526⟩)
    | 15, _ => exact Or.inr (Or.inr ⟨ch527, gd527⟩)
    | 16, _ => exact Or.inr (Or.inr ⟨ch528, gd528⟩)
    | 17, _ => exact Or.inr (Or.inr ⟨ch529, gd529⟩)
    | 18, _ => exact Or.inr (Or.inr ⟨ch530, gd530⟩)
    | 19, _ => exact Or.inr (Or.inr ⟨ch531, gd531⟩)
    | 20, _ => exact Or.inr (Or.inr ⟨ch532, gd532⟩)
    | 21, _ => exact Or.inr (Or.inr ⟨ch533, gd533⟩)
    | 22, _ => exact Or.inr (Or.inr ⟨ch534, gd534⟩)
    | 23, _ => exact Or.inr (Or.inr ⟨ch535, gd535⟩)
    | 24, _ => exact Or.inr (Or.inr ⟨ch536, gd536⟩)
    | 25, _ => exact Or.inr (Or.inr ⟨ch537, gd537⟩)
    | 26, _ => exact Or.inr (Or.inr ⟨ch538, gd538⟩)
    | 27, _ => exact Or.inr (Or.inr ⟨ch539, gd539⟩)
    | 28, _ => exact Or.inr (Or.inr ⟨ch540, gd540⟩)
    | 29, _ => exact Or.inr (Or.inr ⟨ch541, gd541⟩)
    | 30, _ => exact Or.inr (Or.inr ⟨ch542, gd542⟩)
    | 31, _ => exact Or.inr (Or.inr ⟨ch543, gd543⟩)
    | 32, _ => exact Or.inr (Or.inr ⟨ch544, gd544⟩)
    | 33, _ => exact Or.inr (Or.inr ⟨ch545, gd545⟩)
    | q + 34, h => exact absurd h (by omega)
  · exact sn_out (c := 8) (n := 34) rfl hi h
theorem al9 (i : Nat) (hi : i < 64) : sn_P1 (64 * 9 + i) := by
  rcases Nat.lt_or_ge i 5 with h | h
  · match i, h with
    | 0, _ => exact Or.inr (Or.inr ⟨ch576, gd576⟩)
    | 1, _ => exact Or.inr (Or.inr ⟨ch577, gd577⟩)
    | 2, _ => exact Or.inr (Or.inr ⟨ch578, gd578⟩)
    | 3, _ => exact Or.inr (Or.inr ⟨ch579, gd579⟩)
    | 4, _ => exact Or.inr (Or.inr ⟨ch580, gd580⟩)
    | q + 5, h => exact absurd h (by omega)
  · exact sn_out (c := 9) (n := 5) rfl hi h
theorem al10 (i : Nat) (hi : i < 64) : sn_P1 (64 * 10 + i) := by
  rcases Nat.lt_or_ge i 38 with h | h
  · match i, h with
    | 0, _ => exact Or.inr (Or.inr ⟨ch640, gd640⟩)
    | 1, _ => exact Or.inr (Or.inr ⟨ch641, gd641⟩)
    | 2, _ => exact Or.inr (Or.inr ⟨ch642, gd642⟩)
    | 3, _ => exact Or.inr (Or.inr ⟨ch643, gd643⟩)
    | 4, _ => exact Or.inr (Or.inr ⟨ch644, gd644⟩)
    | 5, _ => exact Or.inr (Or.inr ⟨ch645, gd645⟩)
    | 6, _ => exact Or.inr (Or.inr ⟨ch646, gd646⟩)
    | 7, _ => exact Or.inr (Or.inr ⟨ch647, gd647⟩)
    | 8, _ => exact Or.inr (Or.inr ⟨ch648, gd648⟩)
    | 9, _ => exact Or.inr (Or.inr ⟨ch649, gd649⟩)
    | 10, _ => exact Or.inr (Or.inr ⟨ch650, gd650⟩)
    | 11, _ => exact Or.inr (Or.inr ⟨ch651, gd651⟩)
    | 12, _ => exact Or.inr (Or.inr ⟨ch652, gd652⟩)
    | 13, _ => exact Or.inr (Or.inr ⟨ch653, gd653⟩)
    | 14, _ => exact Or.inr (Or.inr ⟨ch654, gd654⟩)
    | 15, _ => exact Or.inr (Or.inr ⟨ch655, gd655⟩)
    | 16, _ => exact Or.inr (Or.inr ⟨ch656, gd656⟩)
    | 17, _ => exact Or.inr (Or.inr ⟨ch657, gd657⟩)
    | 18, _ => exact Or.inr (Or.inr ⟨ch658, gd658⟩)
    | 19, _ => exact Or.inr (Or.inr ⟨ch659, gd659⟩)
    | 20, _ => exact Or.inr (Or.inr ⟨ch660, gd660⟩)
    | 21, _ => exact Or.inr (Or.inr ⟨ch661, gd661⟩)
    | 22, _ => exact Or.inr (Or.inr ⟨ch662, gd662⟩)
    | 23, _ => exact Or.inr (Or.inr ⟨ch663, gd663⟩)
    | 24, _ => exact Or.inr (Or.inr ⟨ch664, gd664⟩)
    | 25, _ => exact Or.inr (Or.inr ⟨ch665, gd665⟩)
    | 26, _ => exact Or.inr (Or.inr ⟨ch666, gd666⟩)
    | 27, _ => exact Or.inr (Or.inr ⟨ch667, gd667⟩)
    | 28, _ => exact Or.inr (Or.inr ⟨ch668, gd668⟩)
    | 29, _ => exact Or.inr (Or.inr ⟨ch669, gd669⟩)
    | 30, _ => exact Or.inr (Or.inr ⟨ch670, gd670⟩)
    | 31, _ => exact Or.inr (Or.inr ⟨ch671, gd671⟩)
    | 32, _ => exact Or.inr (Or.inr ⟨ch672, gd672⟩)
    | 33, _ => exact Or.inr (Or.inr ⟨ch673, gd673⟩)
    | 34, _ => exact Or.inr (Or.inr ⟨ch674, gd674⟩)
    | 35, _ => exact Or.inr (Or.inr ⟨ch675, gd675⟩)
    | 36, _ => exact Or.inr (Or.inr ⟨ch676, gd676⟩)
    | 37, _ => exact Or.inr (Or.inr ⟨ch677, gd677⟩)
    | q + 38, h => exact absurd h (by omega)
  · exact sn_out (c := 10) (n := 38) rfl hi h
theorem al11 (i : Nat) (hi : i < 64) : sn_P1 (64 * 11 + i) := by
  rcases Nat.lt_or_ge i 34 with h | h
  · match i, h with
    | 0, _ => exact Or.inr (Or.inr ⟨ch704, gd704⟩)
    | 1, _ => exact Or.inr (Or.inr ⟨ch705, gd705⟩)
    | 2, _ => exact Or.inr (Or.inr ⟨ch706, gd706⟩)
    | 3, _ => exact Or.inr (Or.inr ⟨ch707, gd707⟩)
    | 4, _ => exact Or.inr (Or.inr ⟨ch708, gd708⟩)
    | 5, _ => exact Or.inr (Or.inr ⟨ch709, gd709⟩)
    | 6, _ => exact Or.inr (Or.inr ⟨ch710, gd710⟩)
    | 7, _ => exact Or.inr (Or.inr ⟨ch711, gd711⟩)
    | 8, _ => exact Or.inr (Or.inr ⟨ch712, gd712⟩)
    | 9, _ => exact Or.inr (Or.inr ⟨ch713, gd713⟩)
    | 10, _ => exact Or.inr (Or.inr ⟨ch714, gd714⟩)
    | 11, _ => exact Or.inr (Or.inr ⟨ch715, gd715⟩)
    | 12, _ => exact Or.inr (Or.inr ⟨ch716, gd716⟩)
    | 13, _ => exact Or.inr (Or.inr ⟨ch717, gd717⟩)
    | 14, _ => exact Or.inr (Or.inr ⟨ch718, gd718⟩)
    | 15, _ => exact Or.inr (Or.inr ⟨ch719, gd719⟩)
    | 16, _ => exact Or.inr (Or.inr ⟨ch720, gd720⟩)
    | 17, _ => exact Or.inr (Or.inr ⟨ch721, gd721⟩)
    | 18, _ => exact Or.inr (Or.inr ⟨ch722, gd722⟩)
    | 19, _ => exact Or.inr (Or.inr ⟨ch723, gd723⟩)
    | 20, _ => exact Or.inr (Or.inr ⟨ch724, gd724⟩)
    | 21, _ => exact Or.inr (Or.inr ⟨ch725, gd725⟩)
    | 22, _ => exact Or.inr (Or.inr ⟨ch726, gd726⟩)
    | 23, _ => exact Or.inr (Or.inr ⟨ch727, gd727⟩)
    | 24, _ => exact Or.inr (Or.inr ⟨ch728, gd728⟩)
    | 25, _ => exact Or.inr (Or.inr ⟨ch729, gd729⟩)
    | 26, _ => exact Or.inr (Or.inr ⟨ch730, gd730⟩)
    | 27, _ => exact Or.inr (Or.inr ⟨ch731, gd731⟩)
    | 28, _ => exact Or.inr (Or.inr ⟨ch732, gd732⟩)
    | 29, _ => exact Or.inr (Or.inr ⟨ch733, gd733⟩)
    | 30, _ => exact Or.inr (Or.inr ⟨ch734, gd734⟩)
    | 31, _ => exact Or.inr (Or.inr ⟨ch735, gd735⟩)
    | 32, _ => exact Or.inr (Or.inr ⟨ch736, gd736⟩)
    | 33, _ => exact Or.inr (Or.inr ⟨ch737, gd737⟩)
    | q + 34, h => exact absurd h (by omega)
  · exact sn_out (c := 11) (n := 34) rfl hi h
theorem al12 (i : Nat) (hi : i < 64) : sn_P1 (64 * 12 + i) := by
  rcases Nat.lt_or_ge i 4 with h | h
  · match i, h with
    | 0, _ => exact Or.inr (Or.inr ⟨ch768, gd768⟩)
    | 1, _ => exact Or.inr (Or.inr ⟨ch769, gd769⟩)
    | 2, _ => exact Or.inr (Or.inr ⟨ch770, gd770⟩)
    | 3, _ => exact Or.inr (Or.inr ⟨ch771, gd771⟩)
    | q + 4, h => exact absurd h (by omega)
  · exact sn_out (c := 12) (n := 4) rfl hi h
theorem al13 (i : Nat) (hi : i < 64) : sn_P1 (64 * 13 + i) := by
  rcases Nat.lt_or_ge i 24 with h | h
  · match i, h with
    | 0, _ => exact Or.inr (Or.inr ⟨ch832, gd832⟩)
    | 1, _ => exact Or.inr (Or.inr ⟨ch833, gd833⟩)
    | 2, _ => exact Or.inr (Or.inr ⟨ch834, gd834⟩)
    | 3, _ => exact Or.inr (Or.inr ⟨ch835, gd835⟩)
    | 4, _ => exact Or.inr (Or.inr ⟨ch836, gd836⟩)
    | 5, _ => exact Or.inr (Or.inr ⟨ch837, gd837⟩)
    | 6, _ => exact Or.inr (Or.inr ⟨ch838, gd838⟩)
    | 7, _ => exact Or.inr (Or.inr ⟨ch839, gd839⟩)
    | 8, _ => exact Or.inr (Or.inr ⟨ch840, gd840⟩)
    | 9, _ => exact Or.inr (Or.inr ⟨ch841, gd841⟩)
    | 10, _ => exact Or.inr (Or.inr ⟨ch842, gd842⟩)
    | 11, _ => exact Or.inr (Or.inr ⟨ch843, gd843⟩)
    | 12, _ => exact Or.inr (Or.inr ⟨ch844, gd844⟩)
    | 13, _ => exact Or.inr (Or.inr ⟨ch845, gd845⟩)
    | 14, _ => exact Or.inr (Or.inr ⟨ch846, gd846⟩)
    | 15, _ => exact Or.inr (Or.inr ⟨ch847, gd847⟩)
    | 16, _ => exact Or.inr (Or.inr ⟨ch848, gd848⟩)
    | 17, _ => exact Or.inr (Or.inr ⟨ch849, gd849⟩)
    | 18, _ => exact Or.inr (Or.inr ⟨ch850, gd850⟩)
    | 19, _ => exact Or.inr (Or.inr ⟨ch851, gd851⟩)
    | 20, _ => exact Or.inr (Or.inr ⟨ch852, gd852⟩)
    | 21, _ => exact Or.inr (Or.inr ⟨ch853, gd853⟩)
    | 22, _ => exact Or.inr (Or.inr ⟨ch854, gd854⟩)
    | 23, _ => exact Or.inr (Or.inr ⟨ch855, gd855⟩)
    | q + 24, h => exact absurd h (by omega)
  · exact sn_out (c := 13) (n := 24) rfl hi h
theorem al14 (i : Nat) (hi : i < 64) : sn_P1 (64 * 14 + i) := by
  rcases Nat.lt_or_ge i 6 with h | h
  · match i, h with
    | 0, _ => exact Or.inr (Or.inr ⟨ch896, gd896⟩)
    | 1, _ => exact Or.inr (Or.inr ⟨ch897, gd897⟩)
    | 2, _ => exact Or.inr (Or.inr ⟨ch898, gd898⟩)
    | 3, _ => exact Or.inr (Or.inr ⟨ch899, gd899⟩)
    | 4, _ => exact Or.inr (Or.inr ⟨ch900, gd900⟩)
    | 5, _ => exact Or.inr (Or.inr ⟨ch901, gd901⟩)
    | q + 6, h => exact absurd h (by omega)
  · exact sn_out (c := 14) (n := 6) rfl hi h
theorem al15 (i : Nat) (hi : i < 64) : sn_P1 (64 * 15 + i) := by
  rcases Nat.lt_or_ge i 6 with h | h
  · match i, h with
    | 0, _ => exact Or.inr (Or.inr ⟨ch960, gd960⟩)
    | 1, _ => exact Or.inr (Or.inr ⟨ch961, gd961⟩)
    | 2, _ => exact Or.inr (Or.inr ⟨ch962, gd962⟩)
    | 3, _ => exact Or.inr (Or.inr ⟨ch963, gd963⟩)
    | 4, _ => exact Or.inr (Or.inr ⟨ch964, gd964⟩)
    | 5, _ => exact Or.inr (Or.inr ⟨ch965, gd965⟩)
    | q + 6, h => exact absurd h (by omega)
  · exact sn_out (c := 15) (n := 6) rfl hi h
theorem al16 (i : Nat) (hi : i < 64) : sn_P1 (64 * 16 + i) := by
  rcases Nat.lt_or_ge i 23 with h | h
  · match i, h with
    | 0, _ => exact Or.inr (Or.inr ⟨ch1024, gd1024⟩)
    | 1, _ => exact Or.inr (Or.inr ⟨ch1025, gd1025⟩)
    | 2, _ => exact Or.inr (Or.inr ⟨ch1026, gd1026⟩)
    | 3, _ => exact Or.inr (Or.inr ⟨ch1027, gd1027⟩)
    | 4, _ => exact Or.inr (Or.inr ⟨ch1028, gd1028⟩)
    | 5, _ => exact Or.inr (Or.inr ⟨ch1029, gd1029⟩)
    | 6, _ => exact Or.inr (Or.inr ⟨ch1030, gd1030⟩)
    | 7, _ => exact Or.inr (Or.inr ⟨ch1031, gd1031⟩)
    | 8, _ => exact Or.inr (Or.inr ⟨ch1032, gd1032⟩)
    | 9, _ => exact Or.inr (Or.inr ⟨ch1033, gd1033⟩)
    | 10, _ => exact Or.inr (Or.inr ⟨ch1034, gd1034⟩)
    | 11, _ => exact Or.inr (Or.inr ⟨ch1035, gd1035⟩)
    | 12, _ => exact Or.inr (Or.inr ⟨ch1036, gd1036⟩)
    | 13, _ => exact Or.inr (Or.inr ⟨ch1037, gd1037⟩)
    | 14, _ => exact Or.inr (Or.inr ⟨ch1038, gd1038⟩)
    | 15, _ => exact Or.inr (Or.inr ⟨ch1039, gd1039⟩)
    | 16, _ => exact Or.inr (Or.inr ⟨ch1040, gd1040⟩)
    | 17, _ => exact Or.inr (Or.inr ⟨ch1041, gd1041⟩)
    | 18, _ => exact Or.inr (Or.inr ⟨ch1042, gd1042⟩)
    | 19, _ => exact Or.inr (Or.inr ⟨ch1043, gd1043⟩)
    | 20, _ => exact Or.inr (Or.inr ⟨ch1044, gd1044⟩)
    | 21, _ => exact Or.inr (Or.inr ⟨ch1045, gd1045⟩)
    | 22, _ => exact Or.inr (Or.inr ⟨ch1046, gd1046⟩)
    | q + 23, h => exact absurd h (by omega)
  · exact sn_out (c := 16) (n := 23) rfl hi h
theorem al17 (i : Nat) (hi : i < 64) : sn_P1 (64 * 17 + i) := by
  rcases Nat.lt_or_ge i 2 with h | h
  · match i, h with
    | 0, _ => exact Or.inr (Or.inr ⟨ch1088, gd1088⟩)
    | 1, _ => exact Or.inr (Or.inr ⟨ch1089, gd1089⟩)
    | q + 2, h => exact absurd h (by omega)
  · exact sn_out (c := 17) (n := 2) rfl hi h
theorem al18 (i : Nat) (hi : i < 64) : sn_P1 (64 * 18 + i) := by
  rcases Nat.lt_or_ge i 9 with h | h
  · match i, h with
    | 0, _ => exact Or.inr (Or.inr ⟨ch1152, gd1152⟩)
    | 1, _ => exact Or.inr (Or.inr ⟨ch1153, gd1153⟩)
    | 2, _ => exact Or.inr (Or.inr ⟨ch1154, gd1154⟩)
    | 3, _ => exact Or.inr (Or.inr ⟨ch1155, gd1155⟩)
    | 4, _ => exact Or.inr (Or.inr ⟨ch1156, gd1156⟩)
    | 5, _ => exact Or.inr (Or.inr ⟨ch1157, gd1157⟩)
    | 6, _ => exact Or.inr (Or.inr ⟨ch1158, gd1158⟩)
    | 7, _ => exact Or.inr (Or.inr ⟨ch1159, gd1159⟩)
    | 8, _ => exact Or.inr (Or.inr ⟨ch1160, gd1160⟩)
    | q + 9, h => exact absurd h (by omega)
  · exact sn_out (c := 18) (n := 9) rfl hi h
theorem al19 (i : Nat) (hi : i < 64) : sn_P1 (64 * 19 + i) := by
  rcases Nat.lt_or_ge i 7 with h | h
  · match i, h with
    | 0, _ => exact Or.inr (Or.inr ⟨ch1216, gd1216⟩)
    | 1, _ => exact Or.inr (Or.inr ⟨ch1217, gd1217⟩)
    | 2, _ => exact Or.inr (Or.inr ⟨ch1218, gd1218⟩)
    | 3, _ => exact Or.inr (Or.inr ⟨ch1219, gd1219⟩)
    | 4, _ => exact Or.inr (Or.inr ⟨ch1220, gd1220⟩)
    | 5, _ => exact Or.inr (Or.inr ⟨ch1221, gd1221⟩)
    | 6, _ => exact Or.inr (Or.inr ⟨ch1222, gd1222⟩)
    | q + 7, h => exact absurd h (by omega)
  · exact sn_out (c := 19) (n := 7) rfl hi h
theorem al20 (i : Nat) (hi : i < 64) : sn_P1 (64 * 20 + i) := by
  rcases Nat.lt_or_ge i 31 with h | h
  · match i, h with
    | 0, _ => exact Or.inr (Or.inr ⟨ch1280, gd1280⟩)
    | 1, _ => exact Or.inr (Or.inr ⟨ch1281, gd1281⟩)
    | 2, _ => exact Or.inr (Or.inr ⟨ch1282, gd1282⟩)
    | 3, _ => exact Or.inr (Or.inr ⟨ch1283, gd1283⟩)
    | 4, _ => exact Or.inr (Or.inr ⟨ch1284, gd1284⟩)
    | 5, _ => exact Or.inr (Or.inr ⟨ch1285, gd1285⟩)
    | 6, _ => exact Or.inr (Or.inr ⟨ch1286, gd1286⟩)
    | 7, _ => exact Or.inr (Or.inr ⟨ch1287, gd1287⟩)
    | 8, _ => exact Or.inr (Or.inr ⟨ch1288, gd1288⟩)
    | 9, _ => exact Or.inr (Or.inr ⟨ch1289, gd1289⟩)
    | 10, _ => exact Or.inr (Or.inr ⟨ch1290, gd1290⟩)
    | 11, _ => exact Or.inr (Or.inr ⟨ch1291, gd1291⟩)
    | 12, _ => exact Or.inr (Or.inr ⟨ch1292, gd1292⟩)
    | 13, _ => exact Or.inr (Or.inr ⟨ch1293, gd1293⟩)
    | 14, _ => exact Or.inr (Or.inr ⟨ch1294, gd1294⟩)
    | 15, _ => exact Or.inr (Or.inr ⟨ch1295, gd1295⟩)
    | 16, _ => exact Or.inr (Or.inr ⟨ch1296, gd1296⟩)
    | 17, _ => exact Or.inr (Or.inr ⟨ch1297, gd1297⟩)
    | 18, _ => exact Or.inr (Or.inr ⟨ch1298, gd1298⟩)
    | 19, _ => exact Or.inr (Or.inr ⟨ch1299, gd1299⟩)
    | 20, _ => exact Or.inr (Or.inr ⟨ch1300, gd1300⟩)
    | 21, _ => exact Or.inr (Or.inr ⟨ch1301, gd1301⟩)
    | 22, _ => exact Or.inr (Or.inr ⟨ch1302, gd1302⟩)
    | 23, _ => exact Or.inr (Or.inr ⟨ch1303, gd1303⟩)
    | 24, _ => exact Or.inr (Or.inr ⟨ch1304, gd1304⟩)
    | 25, _ => exact Or.inr (Or.inr ⟨ch1305, gd1305⟩)
    | 26, _ => exact Or.inr (Or.inr ⟨ch1306, gd1306⟩)
    | 27, _ => exact Or.inr (Or.inr ⟨ch1307, gd1307⟩)
    | 28, _ => exact Or.inr (Or.inr ⟨ch1308, gd1308⟩)
    | 29, _ => exact Or.inr (Or.inr ⟨ch1309, gd1309⟩)
    | 30, _ => exact Or.inr (Or.inr ⟨ch1310, gd1310⟩)
    | q + 31, h => exact absurd h (by omega)
  · exact sn_out (c := 20) (n := 31) rfl hi h
theorem al21 (i : Nat) (hi : i < 64) : sn_P1 (64 * 21 + i) := by
  rcases Nat.lt_or_ge i 9 with h | h
  · match i, h with
    | 0, _ => exact Or.inr (Or.inr ⟨ch1344, gd1344⟩)
    | 1, _ => exact Or.inr (Or.inr ⟨ch1345, gd1345⟩)
    | 2, _ => exact Or.inr (Or.inr ⟨ch1346, gd1346⟩)
    | 3, _ => exact Or.inr (Or.inr ⟨ch1347, gd1347⟩)
    | 4, _ => exact Or.inr (Or.inr ⟨ch1348, gd1348⟩)
    | 5, _ => exact Or.inr (Or.inr ⟨ch1349, gd1349⟩)
    | 6, _ => exact Or.inr (Or.inr ⟨ch1350, gd1350⟩)
    | 7, _ => exact Or.inr (Or.inr ⟨ch1351, gd1351⟩)
    | 8, _ => exact Or.inr (Or.inr ⟨ch1352, gd1352⟩)
    | q + 9, h => exact absurd h (by omega)
  · exact sn_out (c := 21) (n := 9) rfl hi h
theorem al22 (i : Nat) (hi : i < 64) : sn_P1 (64 * 22 + i) := by
  rcases Nat.lt_or_ge i 39 with h | h
  · match i, h with
    | 0, _ => exact Or.inr (Or.inr ⟨ch1408, gd1408⟩)
    | 1, _ => exact Or.inr (Or.inr ⟨ch1409, gd1409⟩)
    | 2, _ => exact Or.inr (Or.inr ⟨ch1410, gd1410⟩)
    | 3, _ => exact Or.inr (Or.inr ⟨ch1411, gd1411⟩)
    | 4, _ => exact Or.inr (Or.inr ⟨ch1412, gd1412⟩)
    | 5, _ => exact Or.inr (Or.inr ⟨ch1413, gd1413⟩)
    | 6, _ => exact Or.inr (Or.inr ⟨ch1414, gd1414⟩)
    | 7, _ => exact Or.inr (Or.inr ⟨ch1415, gd1415⟩)
    | 8, _ => exact Or.inr (Or.inr ⟨ch1416, gd1416⟩)
    | 9, _ => exact Or.inr (Or.inr ⟨ch1417, gd1417⟩)
    | 10, _ => exact Or.inr (Or.inr ⟨ch1418, gd1418⟩)
    | 11, _ => exact Or.inr (Or.inr ⟨ch1419, gd1419⟩)
    | 12, _ => exact Or.inr (Or.inr ⟨ch1420, gd1420⟩)
    | 13, _ => exact Or.inr (Or.inr ⟨ch1421, gd1421⟩)
    | 14, _ => exact Or.inr (Or.inr ⟨ch1422, gd1422⟩)
    | 15, _ => exact Or.inr (Or.inr ⟨ch1423, gd1423⟩)
    | 16, _ => exact Or.inr (Or.inr ⟨ch1424, gd1424⟩)
    | 17, _ => exact Or.inr (Or.inr ⟨ch1425, gd1425⟩)
    | 18, _ => exact Or.inr (Or.inr ⟨ch1426, gd1426⟩)
    | 19, _ => exact Or.inr (Or.inr ⟨ch1427, gd1427⟩)
    | 20, _ => exact Or.inr (Or.inr ⟨ch1428, gd1428⟩)
    | 21, _ => exact Or.inr (Or.inr ⟨ch1429, gd1429⟩)
    | 22, _ => exact Or.inr (Or.inr ⟨ch1430, gd1430⟩)
    | 23, _ => exact Or.inr (Or.inr ⟨ch1431, gd1431⟩)
    | 24, _ => exact Or.inr (Or.inr ⟨ch1432, gd1432⟩)
    | 25, _ => exact Or.inr (Or.inr ⟨ch1433, gd1433⟩)
    | 26, _ => exact Or.inr (Or.inr ⟨ch1434, gd1434⟩)
    | 27, _ => exact Or.inr (Or.inr ⟨ch1435, gd1435⟩)
    | 28, _ => exact Or.inr (Or.inr ⟨ch1436, gd1436⟩)
    | 29, _ => exact Or.inr (Or.inr ⟨ch1437, gd1437⟩)
    | 30, _ => exact Or.inr (Or.inr ⟨ch1438, gd1438⟩)
    | 31, _ => exact Or.inr (Or.inr ⟨ch1439, gd1439⟩)
    | 32, _ => exact Or.inr (Or.inr ⟨ch1440, gd1440⟩)
    | 33, _ => exact Or.inr (Or.inr ⟨ch1441, gd1441⟩)
    | 34, _ => exact Or.inr (Or.inr ⟨ch1442, gd1442⟩)
    | 35, _ => exact Or.inr (Or.inr ⟨ch1443, gd1443⟩)
    | 36, _ => exact Or.inr (Or.inr ⟨ch1444, gd1444⟩)
    | 37, _ => exact Or.inr (Or.inr ⟨ch1445, gd1445⟩)
    | 38, _ => exact Or.inr (Or.inr ⟨ch1446, gd1446⟩)
    | q + 39, h => exact absurd h (by omega)
  · exact sn_out (c := 22) (n := 39) rfl hi h
theorem al23 (i : Nat) (hi : i < 64) : sn_P1 (64 * 23 + i) := by
  rcases Nat.lt_or_ge i 5 with h | h
  · match i, h with
    | 0, _ => exact Or.inr (Or.inr ⟨ch1472, gd1472⟩)
    | 1, _ => exact Or.inr (Or.inr ⟨ch1473, gd1473⟩)
    | 2, _ => exact Or.inr (Or.inr ⟨ch1474, gd1474⟩)
    | 3, _ => exact Or.inr (Or.inr ⟨ch1475, gd1475⟩)
    | 4, _ => exact Or.inr (Or.inr ⟨ch1476, gd1476⟩)
    | q + 5, h => exact absurd h (by omega)
  · exact sn_out (c := 23) (n := 5) rfl hi h
theorem al24 (i : Nat) (hi : i < 64) : sn_P1 (64 * 24 + i) := by
  rcases Nat.lt_or_ge i 27 with h | h
  · match i, h with
    | 0, _ => exact Or.inr (Or.inr ⟨ch1536, gd1536⟩)
    | 1, _ => exact Or.inr (Or.inr ⟨ch1537, gd1537⟩)
    | 2, _ => exact Or.inr (Or.inr ⟨ch1538, gd1538⟩)
    | 3, _ => exact Or.inr (Or.inr ⟨ch1539, gd1539⟩)
    | 4, _ => exact Or.inr (Or.inr ⟨ch1540, gd1540⟩)
    | 5, _ => exact Or.inr (Or.inr ⟨ch1541, gd1541⟩)
    | 6, _ => exact Or.inr (Or.inr ⟨ch1542, gd1542⟩)
    | 7, _ => exact Or.inr (Or.inr ⟨ch1543, gd1543⟩)
    | 8, _ => exact Or.inr (Or.inr ⟨ch1544, gd1544⟩)
    | 9, _ => exact Or.inr (Or.inr ⟨ch1545, gd1545⟩)
    | 10, _ => exact Or.inr (Or.inr ⟨ch1546, gd1546⟩)
    | 11, _ => exact Or.inr (Or.inr ⟨ch1547, gd1547⟩)
    | 12, _ => exact Or.inr (Or.inr ⟨ch1548, gd1548⟩)
    | 13, _ => exact Or.inr (Or.inr ⟨ch1549, gd1549⟩)
    | 14, _ => exact Or.inr (Or.inr ⟨ch1550, gd1550⟩)
    | 15, _ => exact Or.inr (Or.inr ⟨ch1551, gd1551⟩)
    | 16, _ => exact Or.inr (Or.inr ⟨ch1552, gd1552⟩)
    | 17, _ => exact Or.inr (Or.inr ⟨ch1553, gd1553⟩)
    | 18, _ => exact Or.inr (Or.inr ⟨ch1554, gd1554⟩)
    | 19, _ => exact Or.inr (Or.inr ⟨ch1555, gd1555⟩)
    | 20, _ => exact Or.inr (Or.inr ⟨ch1556, gd1556⟩)
    | 21, _ => exact Or.inr (Or.inr ⟨ch1557, gd1557⟩)
    | 22, _ => exact Or.inr (Or.inr ⟨ch1558, gd1558⟩)
    | 23, _ => exact Or.inr (Or.inr ⟨ch1559, gd1559⟩)
    | 24, _ => exact Or.inr (Or.inr ⟨ch1560, gd1560⟩)
    | 25, _ => exact Or.inr (Or.inr ⟨ch1561, gd1561⟩)
    | 26, _ => exact Or.inr (Or.inr ⟨ch1562, gd1562⟩)
    | q + 27, h => exact absurd h (by omega)
  · exact sn_out (c := 24) (n := 27) rfl hi h
theorem al25 (i : Nat) (hi : i < 64) : sn_P1 (64 * 25 + i) := by
  rcases Nat.lt_or_ge i 31 with h | h
  · match i, h with
    | 0, _ => exact Or.inr (Or.inr ⟨ch1600, gd1600⟩)
    | 1, _ => exact Or.inr (Or.inr ⟨ch1601, gd1601⟩)
    | 2, _ => exact Or.inr (Or.inr ⟨ch1602, gd1602⟩)
    | 3, _ => exact Or.inr (Or.inr ⟨ch1603, gd1603⟩)
    | 4, _ => exact Or.inr (Or.inr ⟨ch1604, gd1604⟩)
    | 5, _ => exact Or.inr (Or.inr ⟨ch1605, gd1605⟩)
    | 6, _ => exact Or.inr (Or.inr ⟨ch1606, gd1606⟩)
    | 7, _ => exact Or.inr (Or.inr ⟨ch1607, gd1607⟩)
    | 8, _ => exact Or.inr (Or.inr ⟨ch1608, gd1608⟩)
    | 9, _ => exact Or.inr (Or.inr ⟨ch1609, gd1609⟩)
    | 10, _ => exact Or.inr (Or.inr ⟨ch1610, gd1610⟩)
    | 11, _ => exact Or.inr (Or.inr ⟨ch1611, gd1611⟩)
    | 12, _ => exact Or.inr (Or.inr ⟨ch1612, gd1612⟩)
    | 13, _ => exact Or.inr (Or.inr ⟨ch1613, gd1613⟩)
    | 14, _ => exact Or.inr (Or.inr ⟨ch1614, gd1614⟩)
    | 15, _ => exact Or.inr (Or.inr ⟨ch1615, gd1615⟩)
    | 16, _ => exact Or.inr (Or.inr ⟨ch1616, gd1616⟩)
    | 17, _ => exact Or.inr (Or.inr ⟨ch1617, gd1617⟩)
    | 18, _ => exact Or.inr (Or.inr ⟨ch1618, gd1618⟩)
    | 19, _ => exact Or.inr (Or.inr ⟨ch1619, gd1619⟩)
    | 20, _ => exact Or.inr (Or.inr ⟨ch1620, gd1620⟩)
    | 21, _ => exact Or.inr (Or.inr ⟨ch1621, gd1621⟩)
    | 22, _ => exact Or.inr (Or.inr ⟨ch1622, gd1622⟩)
    | 23, _ => exact Or.inr (Or.inr ⟨ch1623, gd1623⟩)
    | 24, _ => exact Or.inr (Or.inr ⟨ch1624, gd1624⟩)
    | 25, _ => exact Or.inr (Or.inr ⟨ch1625, gd1625⟩)
    | 26, _ => exact Or.inr (Or.inr ⟨ch1626, gd1626⟩)
    | 27, _ => exact Or.inr (Or.inr ⟨ch1627, gd1627⟩)
    | 28, _ => exact Or.inr (Or.inr ⟨ch1628, gd1628⟩)
    | 29, _ => exact Or.inr (Or.inr ⟨ch1629, gd1629⟩)
    | 30, _ => exact Or.inr (Or.inr ⟨ch1630, gd1630⟩)
    | q + 31, h => exact absurd h (by omega)
  · exact sn_out (c := 25) (n := 31) rfl hi h
theorem al26 (i : Nat) (hi : i < 64) : sn_P1 (64 * 26 + i) := by
  rcases Nat.lt_or_ge i 39 with h | h
  · match i, h with
    | 0, _ => exact Or.inr (Or.inr ⟨ch1664, gd1664⟩)
    | 1, _ => exact Or.inr (Or.inr ⟨ch1665, gd1665⟩)
    | 2, _ => exact Or.inr (Or.inr ⟨ch1666, gd1666⟩)
    | 3, _ => exact Or.inr (Or.inr ⟨ch1667, gd1667⟩)
    | 4, _ => exact Or.inr (Or.inr ⟨ch1668, gd1668⟩)
    | 5, _ => exact Or.inr (Or.inr ⟨ch1669, gd1669⟩)
    | 6, _ => exact Or.inr (Or.inr ⟨ch1670, gd1670⟩)
    | 7, _ => exact Or.inr (Or.inr ⟨ch1671, gd1671⟩)
    | 8, _ => exact Or.inr (Or.inr ⟨ch1672, gd1672⟩)
    | 9, _ => exact Or.inr (Or.inr ⟨ch1673, gd1673⟩)
    | 10, _ => exact Or.inr (Or.inr ⟨ch1674, gd1674⟩)
    | 11, _ => exact Or.inr (Or.inr ⟨ch1675, gd1675⟩)
    | 12, _ => exact Or.inr (Or.inr ⟨ch1676, gd1676⟩)
    | 13, _ => exact Or.inr (Or.inr ⟨ch1677, gd1677⟩)
    | 14, _ => exact Or.inr (Or.inr ⟨ch1678, gd1678⟩)
    | 15, _ => exact Or.inr (Or.inr ⟨ch1679, gd1679⟩)
    | 16, _ => exact Or.inr (Or.inr ⟨ch1680, gd1680⟩)
    | 17, _ => exact Or.inr (Or.inr ⟨ch1681, gd1681⟩)
    | 18, _ => exact Or.inr (Or.inr ⟨ch1682, gd1682⟩)
    | 19, _ => exact Or.inr (Or.inr ⟨ch1683, gd1683⟩)
    | 20, _ => exact Or.inr (Or.inr ⟨ch1684, gd1684⟩)
    | 21, _ => exact Or.inr (Or.inr ⟨ch1685, gd1685⟩)
    | 22, _ => exact Or.inr (Or.inr ⟨ch1686, gd1686⟩)
    | 23, _ => exact Or.inr (Or.inr ⟨ch1687, gd1687⟩)
    | 24, _ => exact Or.inr (Or.inr ⟨ch1688, gd1688⟩)
    | 25, _ => exact Or.inr (Or.inr ⟨ch1689, gd1689⟩)
    | 26, _ => exact Or.inr (Or.inr ⟨ch1690, gd1690⟩)
    | 27, _ => exact Or.inr (Or.inr ⟨ch1691, gd1691⟩)
    | 28, _ => exact Or.inr (Or.inr ⟨ch1692, gd1692⟩)
    | 29, _ => exact Or.inr (Or.inr ⟨ch1693, gd1693⟩)
    | 30, _ => exact Or.inr (Or.inr ⟨ch1694, gd1694⟩)
    | 31, _ => exact Or.inr (Or.inr ⟨ch1695, gd1695⟩)
    | 32, _ => exact Or.inr (Or.inr ⟨ch1696, gd1696⟩)
    | 33, _ => exact Or.inr (Or.inr ⟨ch1697, gd1697⟩)
    | 34, _ => exact Or.inr (Or.inr ⟨ch1698, gd1698⟩)
    | 35, _ => exact Or.inr (Or.inr ⟨ch1699, gd1699⟩)
    | 36, _ => exact Or.inr (Or.inr ⟨ch1700, gd1700⟩)
    | 37, _ => exact Or.inr (Or.inr ⟨ch1701, gd1701⟩)
    | 38, _ => exact Or.inr (Or.inr ⟨ch1702, gd1702⟩)
    | q + 39, h => exact absurd h (by omega)
  · exact sn_out (c := 26) (n := 39) rfl hi h
theorem al27 (i : Nat) (hi : i < 64) : sn_P1 (64 * 27 + i) := by
  rcases Nat.lt_or_ge i 54 with h | h
  · match i, h with
    | 0, _ => exact Or.inr (Or.inr ⟨ch1728, gd1728⟩)
    | 1, _ => exact Or.inr (Or.inr ⟨ch1729, gd1729⟩)
    | 2, _ => exact Or.inr (Or.inr ⟨ch1730, gd1730⟩)
    | 3, _ => exact Or.inr (Or.inr ⟨ch1731, gd1731⟩)
    | 4, _ => exact Or.inr (Or.inr ⟨ch1732, gd1732⟩)
    | 5, _ => exact Or.inr (Or.inr ⟨ch1733, gd1733⟩)
    | 6, _ => exact Or.inr (Or.inr ⟨ch1734, gd1734⟩)
    | 7, _ => exact Or.inr (Or.inr ⟨ch1735, gd1735⟩)
    | 8, _ => exact Or.inr (Or.inr ⟨ch1736, gd1736⟩)
    | 9, _ => exact Or.inr (Or.inr ⟨ch1737, gd1737⟩)
    | 10, _ => exact Or.inr (Or.inr ⟨ch1738, gd1738⟩)
    | 11, _ => exact Or.inr (Or.inr ⟨ch1739, gd1739⟩)
    | 12, _ => exact Or.inr (Or.inr ⟨ch1740, gd1740⟩)
    | 13, _ => exact Or.inr (Or.inr ⟨ch1741, gd1741⟩)
    | 14, _ => exact Or.inr (Or.inr ⟨ch1742, gd1742⟩)
    | 15, _ => exact Or.inr (Or.inr ⟨ch1743, gd1743⟩)
    | 16, _ => exact Or.inr (Or.inr ⟨ch1744, gd1744⟩)
    | 17, _ => exact Or.inr (Or.inr ⟨ch1745, gd1745⟩)
    | 18, _ => exact Or.inr (Or.inr ⟨ch1746, gd1746⟩)
    | 19, _ => exact Or.inr (Or.inr ⟨ch1747, gd1747⟩)
    | 20, _ => exact Or.inr (Or.inr ⟨ch1748, gd1748⟩)
    | 21, _ => exact Or.inr (Or.inr ⟨ch1749, gd1749⟩)
    | 22, _ => exact Or.inr (Or.inr ⟨ch1750, gd1750⟩)
    | 23, _ => exact Or.inr (Or.inr ⟨ch1751, gd1751⟩)
    | 24, _ => exact Or.inr (Or.inr ⟨ch1752, gd1752⟩)
    | 25, _ => exact Or.inr (Or.inr ⟨ch1753, gd1753⟩)
    | 26, _ => exact Or.inr (Or.inr ⟨ch1754, gd1754⟩)
    | 27, _ => exact Or.inr (Or.inr ⟨ch1755, gd1755⟩)
    | 28, _ => exact Or.inr (Or.inr ⟨ch1756, gd1756⟩)
    | 29, _ => exact Or.inr (Or.inr ⟨ch1757, gd1757⟩)
    | 30, _ => exact Or.inr (Or.inr ⟨ch1758, gd1758⟩)
    | 31, _ => exact Or.inr (Or.inr ⟨ch1759, gd1759⟩)
    | 32, _ => exact Or.inr (Or.inr ⟨ch1760, gd1760⟩)
    | 33, _ => exact Or.inr (Or.inr ⟨ch1761, gd1761⟩)
    | 34, _ => exact Or.inr (Or.inr ⟨ch1762, gd1762⟩)
    | 35, _ => exact Or.inr (Or.inr ⟨ch1763, gd1763⟩)
    | 36, _ => exact Or.inr (Or.inr ⟨ch1764, gd1764⟩)
    | 37, _ => exact Or.inr (Or.inr ⟨ch1765, gd1765⟩)
    | 38, _ => exact Or.inr (Or.inr ⟨ch1766, gd1766⟩)
    | 39, _ => exact Or.inr (Or.inr ⟨ch1767, gd1767⟩)
    | 40, _ => exact Or.inr (Or.inr ⟨ch1768, gd1768⟩)
    | 41, _ => exact Or.inr (Or.inr ⟨ch1769, gd1769⟩)
    | 42, _ => exact Or.inr (Or.inr ⟨ch1770, gd1770⟩)
    | 43, _ => exact Or.inr (Or.inr ⟨ch1771, gd1771⟩)
    | 44, _ => exact Or.inr (Or.inr ⟨ch1772, gd1772⟩)
    | 45, _ => exact Or.inr (Or.inr ⟨ch1773, gd1773⟩)
    | 46, _ => exact Or.inr (Or.inr ⟨ch1774, gd1774⟩)
    | 47, _ => exact Or.inr (Or.inr ⟨ch1775, gd1775⟩)
    | 48, _ => exact Or.inr (Or.inr ⟨ch1776, gd1776⟩)
    | 49, _ => exact Or.inr (Or.inr ⟨ch1777, gd1777⟩)
    | 50, _ => exact Or.inr (Or.inr ⟨ch1778, gd1778⟩)
    | 51, _ => exact Or.inr (Or.inr ⟨ch1779, gd1779⟩)
    | 52, _ => exact Or.inr (Or.inr ⟨ch1780, gd1780⟩)
    | 53, _ => exact Or.inr (Or.inr ⟨ch1781, gd1781⟩)
    | q + 54, h => exact absurd h (by omega)
  · exact sn_out (c := 27) (n := 54) rfl hi h
theorem al28 (i : Nat) (hi : i < 64) : sn_P1 (64 * 28 + i) := by
  rcases Nat.lt_or_ge i 32 with h | h
  · match i, h with
    | 0, _ => exact Or.inr (Or.inr ⟨ch1792, gd1792⟩)
    | 1, _ => exact Or.inr (Or.inr ⟨ch1793, gd1793⟩)
    | 2, _ => exact Or.inr (Or.inr ⟨ch1794, gd1794⟩)
    | 3, _ => exact Or.inr (Or.inr ⟨ch1795, gd1795⟩)
    | 4, _ => exact Or.inr (Or.inr ⟨ch1796, gd1796⟩)
    | 5, _ => exact Or.inr (Or.inr ⟨ch1797, gd1797⟩)
    | 6, _ => exact Or.inr (Or.inr ⟨ch1798, gd1798⟩)
    | 7, _ => exact Or.inr (Or.inr ⟨ch1799, gd1799⟩)
    | 8, _ => exact Or.inr (Or.inr ⟨ch1800, gd1800⟩)
    | 9, _ => exact Or.inr (Or.inr ⟨ch1801, gd1801⟩)
    | 10, _ => exact Or.inr (Or.inr ⟨ch1802, gd1802⟩)
    | 11, _ => exact Or.inr (Or.inr ⟨ch1803, gd1803⟩)
    | 12, _ => exact Or.inr (Or.inr ⟨ch1804, gd1804⟩)
    | 13, _ => exact Or.inr (Or.inr ⟨ch1805, gd1805⟩)
    | 14, _ => exact Or.inr (Or.inr ⟨ch1806, gd1806⟩)
    | 15, _ => exact Or.inr (Or.inr ⟨ch1807, gd1807⟩)
    | 16, _ => exact Or.inr (Or.inr ⟨ch1808, gd1808⟩)
    | 17, _ => exact Or.inr (Or.inr ⟨ch1809, gd1809⟩)
    | 18, _ => exact Or.inr (Or.inr ⟨ch1810, gd1810⟩)
    | 19, _ => exact Or.inr (Or.inr ⟨ch1811, gd1811⟩)
    | 20, _ => exact Or.inr (Or.inr ⟨ch1812, gd1812⟩)
    | 21, _ => exact Or.inr (Or.inr ⟨ch1813, gd1813⟩)
    | 22, _ => exact Or.inr (Or.inr ⟨ch1814, gd1814⟩)
    | 23, _ => exact Or.inr (Or.inr ⟨ch1815, gd1815⟩)
    | 24, _ => exact Or.inr (Or.inr ⟨ch1816, gd1816⟩)
    | 25, _ => exact Or.inr (Or.inr ⟨ch1817, gd1817⟩)
    | 26, _ => exact Or.inr (Or.inr ⟨ch1818, gd1818⟩)
    | 27, _ => exact Or.inr (Or.inr ⟨ch1819, gd1819⟩)
    | 28, _ => exact Or.inr (Or.inr ⟨ch1820, gd1820⟩)
    | 29, _ => exact Or.inr (Or.inr ⟨ch1821, gd1821⟩)
    | 30, _ => exact Or.inr (Or.inr ⟨ch1822, gd1822⟩)
    | 31, _ => exact Or.inr (Or.inr ⟨ch1823, gd1823⟩)
    | q + 32, h => exact absurd h (by omega)
  · exact sn_out (c := 28) (n := 32) rfl hi h
theorem al29 (i : Nat) (hi : i < 64) : sn_P1 (64 * 29 + i) := by
  rcases Nat.lt_or_ge i 44 with h | h
  · match i, h with
    | 0, _ => exact Or.inr (Or.inr ⟨ch1856, gd1856⟩)
    | 1, _ => exact Or.inr (Or.inr ⟨ch1857, gd1857⟩)
    | 2, _ => exact Or.inr (Or.inr ⟨ch1858, gd1858⟩)
    | 3, _ => exact Or.inr (Or.inr ⟨ch1859, gd1859⟩)
    | 4, _ => exact Or.inr (Or.inr ⟨ch1860, gd1860⟩)
    | 5, _ => exact Or.inr (Or.inr ⟨ch1861, gd1861⟩)
    | 6, _ => exact Or.inr (Or.inr ⟨ch1862, gd1862⟩)
    | 7, _ => exact Or.inr (Or.inr ⟨ch1863, gd1863⟩)
    | 8, _ => exact Or.inr (Or.inr ⟨ch1864, gd1864⟩)
    | 9, _ => exact Or.inr (Or.inr ⟨ch1865, gd1865⟩)
    | 10, _ => exact Or.inr (Or.inr ⟨ch1866, gd1866⟩)
    | 11, _ => exact Or.inr (Or.inr ⟨ch1867, gd1867⟩)
    | 12, _ => exact Or.inr (Or.inr ⟨ch1868, gd1868⟩)
    | 13, _ => exact Or.inr (Or.inr ⟨ch1869, gd1869⟩)
    | 14, _ => exact Or.inr (Or.inr ⟨ch1870, gd1870⟩)
    | 15, _ => exact Or.inr (Or.inr ⟨ch1871, gd1871⟩)
    | 16, _ => exact Or.inr (Or.inr ⟨ch1872, gd1872⟩)
    | 17, _ => exact Or.inr (Or.inr ⟨ch1873, gd1873⟩)
    | 18, _ => exact Or.inr (Or.inr ⟨ch1874, gd1874⟩)
    | 19, _ => exact Or.inr (Or.inr ⟨ch1875, gd1875⟩)
    | 20, _ => exact Or.inr (Or.inr ⟨ch1876, gd1876⟩)
    | 21, _ => exact Or.inr (Or.inr ⟨ch1877, gd1877⟩)
    | 22, _ => exact Or.inr (Or.inr ⟨ch1878, gd1878⟩)
    | 23, _ => exact Or.inr (Or.inr ⟨ch1879, gd1879⟩)
    | 24, _ => exact Or.inr (Or.inr ⟨ch1880, gd1880⟩)
    | 25, _ => exact Or.inr (Or.inr ⟨ch1881, gd1881⟩)
    | 26, _ => exact Or.inr (Or.inr ⟨ch1882, gd1882⟩)
    | 27, _ => exact Or.inr (Or.inr ⟨ch1883, gd1883⟩)
    | 28, _ => exact Or.inr (Or.inr ⟨ch1884, gd1884⟩)
    | 29, _ => exact Or.inr (Or.inr ⟨ch1885, gd1885⟩)
    | 30, _ => exact Or.inr (Or.inr ⟨ch1886, gd1886⟩)
    | 31, _ => exact Or.inr (Or.inr ⟨ch1887, gd1887⟩)
    | 32, _ => exact Or.inr (Or.inr ⟨ch1888, gd1888⟩)
    | 33, _ => exact Or.inr (Or.inr ⟨ch1889, gd1889⟩)
    | 34, _ => exact Or.inr (Or.inr ⟨ch1890, gd1890⟩)
    | 35, _ => exact Or.inr (Or.inr ⟨ch1891, gd1891⟩)
    | 36, _ => exact Or.inr (Or.inr ⟨ch1892, gd1892⟩)
    | 37, _ => exact Or.inr (Or.inr ⟨ch1893, gd1893⟩)
    | 38, _ => exact Or.inr (Or.inr ⟨ch1894, gd1894⟩)
    | 39, _ => exact Or.inr (Or.inr ⟨ch1895, gd1895⟩)
    | 40, _ => exact Or.inr (Or.inr ⟨ch1896, gd1896⟩)
    | 41, _ => exact Or.inr (Or.inr ⟨ch1897, gd1897⟩)
    | 42, _ => exact Or.inr (Or.inr ⟨ch1898, gd1898⟩)
    | 43, _ => exact Or.inr (Or.inr ⟨ch1899, gd1899⟩)
    | q + 44, h => exact absurd h (by omega)
  · exact sn_out (c := 29) (n := 44) rfl hi h
theorem al30 (i : Nat) (hi : i < 64) : sn_P1 (64 * 30 + i) := by
  rcases Nat.lt_or_ge i 36 with h | h
  · match i, h with
    | 0, _ => exact Or.inr (Or.inr ⟨ch1920, gd1920⟩)
    | 1, _ => exact Or.inr (Or.inr ⟨ch1921, gd1921⟩)
    | 2, _ => exact Or.inr (Or.inr ⟨ch1922, gd1922⟩)
    | 3, _ => exact Or.inr (Or.inr ⟨ch1923, gd1923⟩)
    | 4, _ => exact Or.inr (Or.inr ⟨ch1924, gd1924⟩)
    | 5, _ => exact Or.inr (Or.inr ⟨ch1925, gd1925⟩)
    | 6, _ => exact Or.inr (Or.inr ⟨ch1926, gd1926⟩)
    | 7, _ => exact Or.inr (Or.inr ⟨ch1927, gd1927⟩)
    | 8, _ => exact Or.inr (Or.inr ⟨ch1928, gd1928⟩)
    | 9, _ => exact Or.inr (Or.inr ⟨ch1929, gd1929⟩)
    | 10, _ => exact Or.inr (Or.inr ⟨ch1930, gd1930⟩)
    | 11, _ => exact Or.inr (Or.inr ⟨ch1931, gd1931⟩)
    | 12, _ => exact Or.inr (Or.inr ⟨ch1932, gd1932⟩)
    | 13, _ => exact Or.inr (Or.inr ⟨ch1933, gd1933⟩)
    | 14, _ => exact Or.inr (Or.inr ⟨ch1934, gd1934⟩)
    | 15, _ => exact Or.inr (Or.inr ⟨ch1935, gd1935⟩)
    | 16, _ => exact Or.inr (Or.inr ⟨ch1936, gd1936⟩)
    | 17, _ => exact Or.inr (Or.inr ⟨ch1937, gd1937⟩)
    | 18, _ => exact Or.inr (Or.inr ⟨ch1938, gd1938⟩)
    | 19, _ => exact Or.inr (Or.inr ⟨ch1939, gd1939⟩)
    | 20, _ => exact Or.inr (Or.inr ⟨ch1940, gd1940⟩)
    | 21, _ => exact Or.inr (Or.inr ⟨ch1941, gd1941⟩)
    | 22, _ => exact Or.inr (Or.inr ⟨ch1942, gd1942⟩)
    | 23, _ => exact Or.inr (Or.inr ⟨ch1943, gd1943⟩)
    | 24, _ => exact Or.inr (Or.inr ⟨ch1944, gd1944⟩)
    | 25, _ => exact Or.inr (Or.inr ⟨ch1945, gd1945⟩)
    | 26, _ => exact Or.inr (Or.inr ⟨ch1946, gd1946⟩)
    | 27, _ => exact Or.inr (Or.inr ⟨ch1947, gd1947⟩)
    | 28, _ => exact Or.inr (Or.inr ⟨ch1948, gd1948⟩)
    | 29, _ => exact Or.inr (Or.inr ⟨ch1949, gd1949⟩)
    | 30, _ => exact Or.inr (Or.inr ⟨ch1950, gd1950⟩)
    | 31, _ => exact Or.inr (Or.inr ⟨ch1951, gd1951⟩)
    | 32, _ => exact Or.inr (Or.inr ⟨ch1952, gd1952⟩)
    | 33, _ => exact Or.inr (Or.inr ⟨ch1953, gd1953⟩)
    | 34, _ => exact Or.inr (Or.inr ⟨ch1954, gd1954⟩)
    | 35, _ => exact Or.inr (Or.inr ⟨ch1955, gd1955⟩)
    | q + 36, h => exact absurd h (by omega)
  · exact sn_out (c := 30) (n := 36) rfl hi h
theorem al31 (i : Nat) (hi : i < 64) : sn_P1 (64 * 31 + i) := by
  rcases Nat.lt_or_ge i 27 with h | h
  · match i, h with
    | 0, _ => exact Or.inr (Or.inr ⟨ch1984, gd1984⟩)
    | 1, _ => exact Or.inr (Or.inr ⟨ch1985, gd1985⟩)
    | 2, _ => exact Or.inr (Or.inr ⟨ch1986, gd1986⟩)
    | 3, _ => exact Or.inr (Or.inr ⟨ch1987, gd1987⟩)
    | 4, _ => exact Or.inr (Or.inr ⟨ch1988, gd1988⟩)
    | 5, _ => exact Or.inr (Or.inr ⟨ch1989, gd1989⟩)
    | 6, _ => exact Or.inr (Or.inr ⟨ch1990, gd1990⟩)
    | 7, _ => exact Or.inr (Or.inr ⟨ch1991, gd1991⟩)
    | 8, _ => exact Or.inr (Or.inr ⟨ch1992, gd1992⟩)
    | 9, _ => exact Or.inr (Or.inr ⟨ch1993, gd1993⟩)
    | 10, _ => exact Or.inr (Or.inr ⟨ch1994, gd1994⟩)
    | 11, _ => exact Or.inr (Or.inr ⟨ch1995, gd1995⟩)
    | 12, _ => exact Or.inr (Or.inr ⟨ch1996, gd1996⟩)
    | 13, _ => exact Or.inr (Or.inr ⟨ch1997, gd1997⟩)
    | 14, _ => exact Or.inr (Or.inr ⟨ch1998, gd1998⟩)
    | 15, _ => exact Or.inr (Or.inr ⟨ch1999, gd1999⟩)
    | 16, _ => exact Or.inr (Or.inr ⟨ch2000, gd2000⟩)
    | 17, _ => exact Or.inr (Or.inr ⟨ch2001, gd2001⟩)
    | 18, _ => exact Or.inr (Or.inr ⟨ch2002, gd2002⟩)
    | 19, _ => exact Or.inr (Or.inr ⟨ch2003, gd2003⟩)
    | 20, _ => exact Or.inr (Or.inr ⟨ch2004, gd2004⟩)
    | 21, _ => exact Or.inr (Or.inr ⟨ch2005, gd2005⟩)
    | 22, _ => exact Or.inr (Or.inr ⟨ch2006, gd2006⟩)
    | 23, _ => exact Or.inr (Or.inr ⟨ch2007, gd2007⟩)
    | 24, _ => exact Or.inr (Or.inr ⟨ch2008, gd2008⟩)
    | 25, _ => exact Or.inr (Or.inr ⟨ch2009, gd2009⟩)
    | 26, _ => exact Or.inr (Or.inr ⟨ch2010, gd2010⟩)
    | q + 27, h => exact absurd h (by omega)
  · exact sn_out (c := 31) (n := 27) rfl hi h
theorem al32 (i : Nat) (hi : i < 64) : sn_P1 (64 * 32 + i) := by
  rcases Nat.lt_or_ge i 30 with h | h
  · match i, h with
    | 0, _ => exact Or.inr (Or.inr ⟨ch2048, gd2048⟩)
    | 1, _ => exact Or.inr (Or.inr ⟨ch2049, gd2049⟩)
    | 2, _ => exact Or.inr (Or.inr ⟨ch2050, gd2050⟩)
    | 3, _ => exact Or.inr (Or.inr ⟨ch2051, gd2051⟩)
    | 4, _ => exact Or.inr (Or.inr ⟨ch2052, gd2052⟩)
    | 5, _ => exact Or.inr (Or.inr ⟨ch2053, gd2053⟩)
    | 6, _ => exact Or.inr (Or.inr ⟨ch2054, gd2054⟩)
    | 7, _ => exact Or.inr (Or.inr ⟨ch2055, gd2055⟩)
    | 8, _ => exact Or.inr (Or.inr ⟨ch2056, gd2056⟩)
    | 9, _ => exact Or.inr (Or.inr ⟨ch2057, gd2057⟩)
    | 10, _ => exact Or.inr (Or.inr ⟨ch2058, gd2058⟩)
    | 11, _ => exact Or.inr (Or.inr ⟨ch2059, gd2059⟩)
    | 12, _ => exact Or.inr (Or.inr ⟨ch2060, gd2060⟩)
    | 13, _ => exact Or.inr (Or.inr ⟨ch2061, gd2061⟩)
    | 14, _ => exact Or.inr (Or.inr ⟨ch2062, gd2062⟩)
    | 15, _ => exact Or.inr (Or.inr ⟨ch2063, gd2063⟩)
    | 16, _ => exact Or.inr (Or.inr ⟨ch2064, gd2064⟩)
    | 17, _ => exact Or.inr (Or.inr ⟨ch2065, gd2065⟩)
    | 18, _ => exact Or.inr (Or.inr ⟨ch2066, gd2066⟩)
    | 19, _ => exact Or.inr (Or.inr ⟨ch2067, gd2067⟩)
    | 20, _ => exact Or.inr (Or.inr ⟨ch2068, gd2068⟩)
    | 21, _ => exact Or.inr (Or.inr ⟨ch2069, gd2069⟩)
    | 22, _ => exact Or.inr (Or.inr ⟨ch2070, gd2070⟩)
    | 23, _ => exact Or.inr (Or.inr ⟨ch2071, gd2071⟩)
    | 24, _ => exact Or.inr (Or.inr ⟨ch2072, gd2072⟩)
    | 25, _ => exact Or.inr (Or.inr ⟨ch2073, gd2073⟩)
    | 26, _ => exact Or.inr (Or.inr ⟨ch2074, gd2074⟩)
    | 27, _ => exact Or.inr (Or.inr ⟨ch2075, gd2075⟩)
    | 28, _ => exact Or.inr (Or.inr ⟨ch2076, gd2076⟩)
    | 29, _ => exact Or.inr (Or.inr ⟨ch2077, gd2077⟩)
    | q + 30, h => exact absurd h (by omega)
  · exact sn_out (c := 32) (n := 30) rfl hi h
theorem al33 (i : Nat) (hi : i < 64) : sn_P1 (64 * 33 + i) := by
  rcases Nat.lt_or_ge i 38 with h | h
  · match i, h with
    | 0, _ => exact Or.inr (Or.inr ⟨ch2112, gd2112⟩)
    | 1, _ => exact Or.inr (Or.inr ⟨ch2113, gd2113⟩)
    | 2, _ => exact Or.inr (Or.inr ⟨ch2114, gd2114⟩)
    | 3, _ => exact Or.inr (Or.inr ⟨ch2115, gd2115⟩)
    | 4, _ => exact Or.inr (Or.inr ⟨ch2116, gd2116⟩)
    | 5, _ => exact Or.inr (Or.inr ⟨ch2117, gd2117⟩)
    | 6, _ => exact Or.inr (Or.inr ⟨ch2118, gd2118⟩)
    | 7, _ => exact Or.inr (Or.inr ⟨ch2119, gd2119⟩)
    | 8, _ => exact Or.inr (Or.inr ⟨ch2120, gd2120⟩)
    | 9, _ => exact Or.inr (Or.inr ⟨ch2121, gd2121⟩)
    | 10, _ => exact Or.inr (Or.inr ⟨ch2122, gd2122⟩)
    | 11, _ => exact Or.inr (Or.inr ⟨ch2123, gd2123⟩)
    | 12, _ => exact Or.inr (Or.inr ⟨ch2124, gd2124⟩)
    | 13, _ => exact Or.inr (Or.inr ⟨ch2125, gd2125⟩)
    | 14, _ => exact Or.inr (Or.inr ⟨ch2126, gd2126⟩)
    | 15, _ => exact Or.inr (Or.inr ⟨ch2127, gd2127⟩)
    | 16, _ => exact Or.inr (Or.inr ⟨ch2128, gd2128⟩)
    | 17, _ => exact Or.inr (Or.inr ⟨ch2129, gd2129⟩)
    | 18, _ => exact Or.inr (Or.inr ⟨ch2130, gd2130⟩)
    | 19, _ => exact Or.inr (Or.inr ⟨ch2131, gd2131⟩)
    | 20, _ => exact Or.inr (Or.inr ⟨ch2132, gd2132⟩)
    | 21, _ => exact Or.inr (Or.inr ⟨ch2133, gd2133⟩)
    | 22, _ => exact Or.inr (Or.inr ⟨ch2134, gd2134⟩)
    | 23, _ => exact Or.inr (Or.inr ⟨ch2135, gd2135⟩)
    | 24, _ => exact Or.inr (Or.inr ⟨ch2136, gd2136⟩)
    | 25, _ => exact Or.inr (Or.inr ⟨ch2137, gd2137⟩)
    | 26, _ => exact Or.inr (Or.inr ⟨ch2138, gd2138⟩)
    | 27, _ => exact Or.inr (Or.inr ⟨ch2139, gd2139⟩)
    | 28, _ => exact Or.inr (Or.inr ⟨ch2140, gd2140⟩)
    | 29, _ => exact Or.inr (Or.inr ⟨ch2141, gd2141⟩)
    | 30, _ => exact Or.inr (Or.inr ⟨ch2142, gd2142⟩)
    | 31, _ => exact Or.inr (Or.inr ⟨ch2143, gd2143⟩)
    | 32, _ => exact Or.inr (Or.inr ⟨ch2144, gd2144⟩)
    | 33, _ => exact Or.inr (Or.inr ⟨ch2145, gd2145⟩)
    | 34, _ => exact Or.inr (Or.inr ⟨ch2146, gd2146⟩)
    | 35, _ => exact Or.inr (Or.inr ⟨ch2147, gd2147⟩)
    | 36, _ => exact Or.inr (Or.inr ⟨ch2148, gd2148⟩)
    | 37, _ => exact Or.inr (Or.inr ⟨ch2149, gd2149⟩)
    | q + 38, h => exact absurd h (by omega)
  · exact sn_out (c := 33) (n := 38) rfl hi h
theorem al34 (i : Nat) (hi : i < 64) : sn_P1 (64 * 34 + i) := by
  rcases Nat.lt_or_ge i 41 with h | h
  · match i, h with
    | 0, _ => exact Or.inr (Or.inr ⟨ch2176, gd2176⟩)
    | 1, _ => exact Or.inr (Or.inr ⟨ch2177, gd2177⟩)
    | 2, _ => exact Or.inr (Or.inr ⟨ch2178, gd2178⟩)
    | 3, _ => exact Or.inr (Or.inr ⟨ch2179, gd2179⟩)
    | 4, _ => exact Or.inr (Or.inr ⟨ch2180, gd2180⟩)
    | 5, _ => exact Or.inr (Or.inr ⟨ch2181, gd2181⟩)
    | 6, _ => exact Or.inr (Or.inr ⟨ch2182, gd2182⟩)
    | 7, _ => exact Or.inr (Or.inr ⟨ch2183, gd2183⟩)
    | 8, _ => exact Or.inr (Or.inr ⟨ch2184, gd2184⟩)
    | 9, _ => exact Or.inr (Or.inr ⟨ch2185, gd2185⟩)
    | 10, _ => exact Or.inr (Or.inr ⟨ch2186, gd2186⟩)
    | 11, _ => exact Or.inr (Or.inr ⟨ch2187, gd2187⟩)
    | 12, _ => exact Or.inr (Or.inr ⟨ch2188, gd2188⟩)
    | 13, _ => exact Or.inr (Or.inr ⟨ch2189, gd2189⟩)
    | 14, _ => exact Or.inr (Or.inr ⟨ch2190, gd2190⟩)
    | 15, _ => exact Or.inr (Or.inr ⟨ch2191, gd2191⟩)
    | 16, _ => exact Or.inr (Or.inr ⟨ch2192, gd2192⟩)
    | 17, _ => exact Or.inr (Or.inr ⟨ch2193, gd2193⟩)
    | 18, _ => exact Or.inr (Or.inr ⟨ch2194, gd2194⟩)
    | 19, _ => exact Or.inr (Or.inr ⟨ch2195, gd2195⟩)
    | 20, _ => exact Or.inr (Or.inr ⟨ch2196, gd2196⟩)
    | 21, _ => exact Or.inr (Or.inr ⟨ch2197, gd2197⟩)
    | 22, _ => exact Or.inr (Or.inr ⟨ch2198, gd2198⟩)
    | 23, _ => exact Or.inr (Or.inr ⟨ch2199, gd2199⟩)
    | 24, _ => exact Or.inr (Or.inr ⟨ch2200, gd2200⟩)
    | 25, _ => exact Or.inr (Or.inr ⟨ch2201, gd2201⟩)
    | 26, _ => exact Or.inr (Or.inr ⟨ch2202, gd2202⟩)
    | 27, _ => exact Or.inr (Or.inr ⟨ch2203, gd2203⟩)
    | 28, _ => exact Or.inr (Or.inr ⟨ch2204, gd2204⟩)
    | 29, _ => exact Or.inr (Or.inr ⟨ch2205, gd2205⟩)
    | 30, _ => exact Or.inr (Or.inr ⟨ch2206, gd2206⟩)
    | 31, _ => exact Or.inr (Or.inr ⟨ch2207, gd2207⟩)
    | 32, _ => exact Or.inr (Or.inr ⟨ch2208, gd2208⟩)
    | 33, _ => exact Or.inr (Or.inr ⟨ch2209, gd2209⟩)
    | 34, _ => exact Or.inr (Or.inr ⟨ch2210, gd2210⟩)
    | 35, _ => exact Or.inr (Or.inr ⟨ch2211, gd2211⟩)
    | 36, _ => exact Or.inr (Or.inr ⟨ch2212, gd2212⟩)
    | 37, _ => exact Or.inr (Or.inr ⟨ch2213, gd2213⟩)
    | 38, _ => exact Or.inr (Or.inr ⟨ch2214, gd2214⟩)
    | 39, _ => exact Or.inr (Or.inr ⟨ch2215, gd2215⟩)
    | 40, _ => exact Or.inr (Or.inr ⟨ch2216, gd2216⟩)
    | q + 41, h => exact absurd h (by omega)
  · exact sn_out (c := 34) (n := 41) rfl hi h
theorem al35 (i : Nat) (hi : i < 64) : sn_P1 (64 * 35 + i) := by
  rcases Nat.lt_or_ge i 37 with h | h
  · match i, h with
    | 0, _ => exact Or.inr (Or.inr ⟨ch2240, gd2240⟩)
    | 1, _ => exact Or.inr (Or.inr ⟨ch2241, gd2241⟩)
    | 2, _ => exact Or.inr (Or.inr ⟨ch2242, gd2242⟩)
    | 3, _ => exact Or.inr (Or.inr ⟨ch2243, gd2243⟩)
    | 4, _ => exact Or.inr (Or.inr ⟨ch2244, gd2244⟩)
    | 5, _ => exact Or.inr (Or.inr ⟨ch2245, gd2245⟩)
    | 6, _ => exact Or.inr (Or.inr ⟨ch2246, gd2246⟩)
    | 7, _ => exact Or.inr (Or.inr ⟨ch2247, gd2247⟩)
    | 8, _ => exact Or.inr (Or.inr ⟨ch2248, gd2248⟩)
    | 9, _ => exact Or.inr (Or.inr ⟨ch2249, gd2249⟩)
    | 10, _ => exact Or.inr (Or.inr ⟨ch2250, gd2250⟩)
    | 11, _ => exact Or.inr (Or.inr ⟨ch2251, gd2251⟩)
    | 12, _ => exact Or.inr (Or.inr ⟨ch2252, gd2252⟩)
    | 13, _ => exact Or.inr (Or.inr ⟨ch2253, gd2253⟩)
    | 14, _ => exact Or.inr (Or.inr ⟨ch2254, gd2254⟩)
    | 15, _ => exact Or.inr (Or.inr ⟨ch2255, gd2255⟩)
    | 16, _ => exact Or.inr (Or.inr ⟨ch2256, gd2256⟩)
    | 17, _ => exact Or.inr (Or.inr ⟨ch2257, gd2257⟩)
    | 18, _ => exact Or.inr (Or.inr ⟨ch2258, gd2258⟩)
    | 19, _ => exact Or.inr (Or.inr ⟨ch2259, gd2259⟩)
    | 20, _ => exact Or.inr (Or.inr ⟨ch2260, gd2260⟩)
    | 21, _ => exact Or.inr (Or.inr ⟨ch2261, gd2261⟩)
    | 22, _ => exact Or.inr (Or.inr ⟨ch2262, gd2262⟩)
    | 23, _ => exact Or.inr (Or.inr ⟨ch2263, gd2263⟩)
    | 24, _ => exact Or.inr (Or.inr ⟨ch2264, gd2264⟩)
    | 25, _ => exact Or.inr (Or.inr ⟨ch2265, gd2265⟩)
    | 26, _ => exact Or.inr (Or.inr ⟨ch2266, gd2266⟩)
    | 27, _ => exact Or.inr (Or.inr ⟨ch2267, gd2267⟩)
    | 28, _ => exact Or.inr (Or.inr ⟨ch2268, gd2268⟩)
    | 29, _ => exact Or.inr (Or.inr ⟨ch2269, gd2269⟩)
    | 30, _ => exact Or.inr (Or.inr ⟨ch2270, gd2270⟩)
    | 31, _ => exact Or.inr (Or.inr ⟨ch2271, gd2271⟩)
    | 32, _ => exact Or.inr (Or.inr ⟨ch2272, gd2272⟩)
    | 33, _ => exact Or.inr (Or.inr ⟨ch2273, gd2273⟩)
    | 34, _ => exact Or.inr (Or.inr ⟨ch2274, gd2274⟩)
    | 35, _ => exact Or.inr (Or.inr ⟨ch2275, gd2275⟩)
    | 36, _ => exact Or.inr (Or.inr ⟨ch2276, gd2276⟩)
    | q + 37, h => exact absurd h (by omega)
  · exact sn_out (c := 35) (n := 37) rfl hi h
theorem al36 (i : Nat) (hi : i < 64) : sn_P1 (64 * 36 + i) := by
  rcases Nat.lt_or_ge i 1 with h | h
  · match i, h with
    | 0, _ => exact Or.inr (Or.inr ⟨ch2304, gd2304⟩)
    | q + 1, h => exact absurd h (by omega)
  · exact sn_out (c := 36) (n := 1) rfl hi h
theorem al37 (i : Nat) (hi : i < 64) : sn_P1 (64 * 37 + i) := by
  rcases Nat.lt_or_ge i 3 with h | h
  · match i, h with
    | 0, _ => exact Or.inr (Or.inr ⟨ch2368, gd2368⟩)
    | 1, _ => exact Or.inr (Or.inr ⟨ch2369, gd2369⟩)
    | 2, _ => exact Or.inr (Or.inr ⟨ch2370, gd2370⟩)
    | q + 3, h => exact absurd h (by omega)
  · exact sn_out (c := 37) (n := 3) rfl hi h
theorem al38 (i : Nat) (hi : i < 64) : sn_P1 (64 * 38 + i) := by
  rcases Nat.lt_or_ge i 2 with h | h
  · match i, h with
    | 0, _ => exact Or.inr (Or.inr ⟨ch2432, gd2432⟩)
    | 1, _ => exact Or.inr (Or.inr ⟨ch2433, gd2433⟩)
    | q + 2, h => exact absurd h (by omega)
  · exact sn_out (c := 38) (n := 2) rfl hi h
theorem al39 (i : Nat) (hi : i < 64) : sn_P1 (64 * 39 + i) := by
  rcases Nat.lt_or_ge i 2 with h | h
  · match i, h with
    | 0, _ => exact Or.inr (Or.inr ⟨ch2496, gd2496⟩)
    | 1, _ => exact Or.inr (Or.inr ⟨ch2497, gd2497⟩)
    | q + 2, h => exact absurd h (by omega)
  · exact sn_out (c := 39) (n := 2) rfl hi h
theorem al40 (i : Nat) (hi : i < 64) : sn_P1 (64 * 40 + i) := by
  rcases Nat.lt_or_ge i 1 with h | h
  · match i, h with
    | 0, _ => exact Or.inr (Or.inr ⟨ch2560, gd2560⟩)
    | q + 1, h => exact absurd h (by omega)
  · exact sn_out (c := 40) (n := 1) rfl hi h
theorem al41 (i : Nat) (hi : i < 64) : sn_P1 (64 * 41 + i) := by
  rcases Nat.lt_or_ge i 2 with h | h
  · match i, h with
    | 0, _ => exact Or.inr (Or.inr ⟨ch2624, gd2624⟩)
    | 1, _ => exact Or.inr (Or.inr ⟨ch2625, gd2625⟩)
    | q + 2, h => exact absurd h (by omega)
  · exact sn_out (c := 41) (n := 2) rfl hi h
theorem al42 (i : Nat) (hi : i < 64) : sn_P1 (64 * 42 + i) := by
  rcases Nat.lt_or_ge i 2 with h | h
  · match i, h with
    | 0, _ => exact Or.inr (Or.inr ⟨ch2688, gd2688⟩)
    | 1, _ => exact Or.inr (Or.inr ⟨ch2689, gd2689⟩)
    | q + 2, h => exact absurd h (by omega)
  · exact sn_out (c := 42) (n := 2) rfl hi h
theorem al43 (i : Nat) (hi : i < 64) : sn_P1 (64 * 43 + i) := by
  rcases Nat.lt_or_ge i 5 with h | h
  · match i, h with
    | 0, _ => exact Or.inr (Or.inr ⟨ch2752, gd2752⟩)
    | 1, _ => exact Or.inr (Or.inr ⟨ch2753, gd2753⟩)
    | 2, _ => exact Or.inr (Or.inr ⟨ch2754, gd2754⟩)
    | 3, _ => exact Or.inr (Or.inr ⟨ch2755, gd2755⟩)
    | 4, _ => exact Or.inr (Or.inr ⟨ch2756, gd2756⟩)
    | q + 5, h => exact absurd h (by omega)
  · exact sn_out (c := 43) (n := 5) rfl hi h
theorem al44 (i : Nat) (hi : i < 64) : sn_P1 (64 * 44 + i) := by
  rcases Nat.lt_or_ge i 6 with h | h
  · match i, h with
    | 0, _ => exact Or.inr (Or.inr ⟨ch2816, gd2816⟩)
    | 1, _ => exact Or.inr (Or.inr ⟨ch2817, gd2817⟩)
    | 2, _ => exact Or.inr (Or.inr ⟨ch2818, gd2818⟩)
    | 3, _ => exact Or.inr (Or.inr ⟨ch2819, gd2819⟩)
    | 4, _ => exact Or.inr (Or.inr ⟨ch2820, gd2820⟩)
    | 5, _ => exact Or.inr (Or.inr ⟨ch2821, gd2821⟩)
    | q + 6, h => exact absurd h (by omega)
  · exact sn_out (c := 44) (n := 6) rfl hi h
theorem al45 (i : Nat) (hi : i < 64) : sn_P1 (64 * 45 + i) := by
  rcases Nat.lt_or_ge i 5 with h | h
  · match i, h with
    | 0, _ => exact Or.inr (Or.inr ⟨ch2880, gd2880⟩)
    | 1, _ => exact Or.inr (Or.inr ⟨ch2881, gd2881⟩)
    | 2, _ => exact Or.inr (Or.inr ⟨ch2882, gd2882⟩)
    | 3, _ => exact Or.inr (Or.inr ⟨ch2883, gd2883⟩)
    | 4, _ => exact Or.inr (Or.inr ⟨ch2884, gd2884⟩)
    | q + 5, h => exact absurd h (by omega)
  · exact sn_out (c := 45) (n := 5) rfl hi h
theorem al46 (i : Nat) (hi : i < 64) : sn_P1 (64 * 46 + i) := by
  rcases Nat.lt_or_ge i 2 with h | h
  · match i, h with
    | 0, _ => exact Or.inr (Or.inr ⟨ch2944, gd2944⟩)
    | 1, _ => exact Or.inr (Or.inr ⟨ch2945, gd2945⟩)
    | q + 2, h => exact absurd h (by omega)
  · exact sn_out (c := 46) (n := 2) rfl hi h
theorem al47 (i : Nat) (hi : i < 64) : sn_P1 (64 * 47 + i) := by
  rcases Nat.lt_or_ge i 2 with h | h
  · match i, h with
    | 0, _ => exact Or.inr (Or.inr ⟨ch3008, gd3008⟩)
    | 1, _ => exact Or.inr (Or.inr ⟨ch3009, gd3009⟩)
    | q + 2, h => exact absurd h (by omega)
  · exact sn_out (c := 47) (n := 2) rfl hi h
theorem al48 (i : Nat) (hi : i < 64) : sn_P1 (64 * 48 + i) := by
  rcases Nat.lt_or_ge i 3 with h | h
  · match i, h with
    | 0, _ => exact Or.inr (Or.inr ⟨ch3072, gd3072⟩)
    | 1, _ => exact Or.inr (Or.inr ⟨ch3073, gd3073⟩)
    | 2, _ => exact Or.inr (Or.inr ⟨ch3074, gd3074⟩)
    | q + 3, h => exact absurd h (by omega)
  · exact sn_out (c := 48) (n := 3) rfl hi h
theorem al49 (i : Nat) (hi : i < 64) : sn_P1 (64 * 49 + i) := by
  rcases Nat.lt_or_ge i 1 with h | h
  · match i, h with
    | 0, _ => exact Or.inr (Or.inr ⟨ch3136, gd3136⟩)
    | q + 1, h => exact absurd h (by omega)
  · exact sn_out (c := 49) (n := 1) rfl hi h
theorem al50 (i : Nat) (hi : i < 64) : sn_P1 (64 * 50 + i) := by
  rcases Nat.lt_or_ge i 2 with h | h
  · match i, h with
    | 0, _ => exact Or.inr (Or.inr ⟨ch3200, gd3200⟩)
    | 1, _ => exact Or.inr (Or.inr ⟨ch3201, gd3201⟩)
    | q + 2, h => exact absurd h (by omega)
  · exact sn_out (c := 50) (n := 2) rfl hi h
theorem al51 (i : Nat) (hi : i < 64) : sn_P1 (64 * 51 + i) := by
  rcases Nat.lt_or_ge i 2 with h | h
  · match i, h with
    | 0, _ => exact Or.inr (Or.inr ⟨ch3264, gd3264⟩)
    | 1, _ => exact Or.inr (Or.inr ⟨ch3265, gd3265⟩)
    | q + 2, h => exact absurd h (by omega)
  · exact sn_out (c := 51) (n := 2) rfl hi h
theorem al52 (i : Nat) (hi : i < 64) : sn_P1 (64 * 52 + i) := by
  rcases Nat.lt_or_ge i 2 with h | h
  · match i, h with
    | 0, _ => exact Or.inr (Or.inr ⟨ch3328, gd3328⟩)
    | 1, _ => exact Or.inr (Or.inr ⟨ch3329, gd3329⟩)
    | q + 2, h => exact absurd h (by omega)
  · exact sn_out (c := 52) (n := 2) rfl hi h
theorem al53 (i : Nat) (hi : i < 64) : sn_P1 (64 * 53 + i) := by
  rcases Nat.lt_or_ge i 2 with h | h
  · match i, h with
    | 0, _ => exact Or.inr (Or.inr ⟨ch3392, gd3392⟩)
    | 1, _ => exact Or.inr (Or.inr ⟨ch3393, gd3393⟩)
    | q + 2, h => exact absurd h (by omega)
  · exact sn_out (c := 53) (n := 2) rfl hi h
theorem al54 (i : Nat) (hi : i < 64) : sn_P1 (64 * 54 + i) := by
  rcases Nat.lt_or_ge i 2 with h | h
  · match i, h with
    | 0, _ => exact Or.inr (Or.inr ⟨ch3456, gd3456⟩)
    | 1, _ => exact Or.inr (Or.inr ⟨ch3457, gd3457⟩)
    | q + 2, h => exact absurd h (by omega)
  · exact sn_out (c := 54) (n := 2) rfl hi h
theorem al55 (i : Nat) (hi : i < 64) : sn_P1 (64 * 55 + i) := by
  rcases Nat.lt_or_ge i 1 with h | h
  · match i, h with
    | 0, _ => exact Or.inr (Or.inr ⟨ch3520, gd3520⟩)
    | q + 1, h => exact absurd h (by omega)
  · exact sn_out (c := 55) (n := 1) rfl hi h
theorem al56 (i : Nat) (hi : i < 64) : sn_P1 (64 * 56 + i) := by
  rcases Nat.lt_or_ge i 1 with h | h
  · match i, h with
    | 0, _ => exact Or.inr (Or.inr ⟨ch3584, gd3584⟩)
    | q + 1, h => exact absurd h (by omega)
  · exact sn_out (c := 56) (n := 1) rfl hi h
theorem al57 (i : Nat) (hi : i < 64) : sn_P1 (64 * 57 + i) := by
  rcases Nat.lt_or_ge i 2 with h | h
  · match i, h with
    | 0, _ => exact Or.inr (Or.inr ⟨ch3648, gd3648⟩)
    | 1, _ => exact Or.inr (Or.inr ⟨ch3649, gd3649⟩)
    | q + 2, h => exact absurd h (by omega)
  · exact sn_out (c := 57) (n := 2) rfl hi h
theorem al58 (i : Nat) (hi : i < 64) : sn_P1 (64 * 58 + i) := by
  rcases Nat.lt_or_ge i 9 with h | h
  · match i, h with
    | 0, _ => exact Or.inr (Or.inr ⟨ch3712, gd3712⟩)
    | 1, _ => exact Or.inr (Or.inr ⟨ch3713, gd3713⟩)
    | 2, _ => exact Or.inr (Or.inr ⟨ch3714, gd3714⟩)
    | 3, _ => exact Or.inr (Or.inr ⟨ch3715, gd3715⟩)
    | 4, _ => exact Or.inr (Or.inr ⟨ch3716, gd3716⟩)
    | 5, _ => exact Or.inr (Or.inr ⟨ch3717, gd3717⟩)
    | 6, _ => exact Or.inr (Or.inr ⟨ch3718, gd3718⟩)
    | 7, _ => exact Or.inr (Or.inr ⟨ch3719, gd3719⟩)
    | 8, _ => exact Or.inr (Or.inr ⟨ch3720, gd3720⟩)
    | q + 9, h => exact absurd h (by omega)
  · exact sn_out (c := 58) (n := 9) rfl hi h
theorem al59 (i : Nat) (hi : i < 64) : sn_P1 (64 * 59 + i) := by
  rcases Nat.lt_or_ge i 3 with h | h
  · match i, h with
    | 0, _ => exact Or.inr (Or.inr ⟨ch3776, gd3776⟩)
    | 1, _ => exact Or.inr (Or.inr ⟨ch3777, gd3777⟩)
    | 2, _ => exact Or.inr (Or.inr ⟨ch3778, gd3778⟩)
    | q + 3, h => exact absurd h (by omega)
  · exact sn_out (c := 59) (n := 3) rfl hi h
theorem al60 (i : Nat) (hi : i < 64) : sn_P1 (64 * 60 + i) := by
  rcases Nat.lt_or_ge i 7 with h | h
  · match i, h with
    | 0, _ => exact Or.inr (Or.inr ⟨ch3840, gd3840⟩)
    | 1, _ => exact Or.inr (Or.inr ⟨ch3841, gd3841⟩)
    | 2, _ => exact Or.inr (Or.inr ⟨ch3842, gd3842⟩)
    | 3, _ => exact Or.inr (Or.inr ⟨ch3843, gd3843⟩)
    | 4, _ => exact Or.inr (Or.inr ⟨ch3844, gd3844⟩)
    | 5, _ => exact Or.inr (Or.inr ⟨ch3845, gd3845⟩)
    | 6, _ => exact Or.inr (Or.inr ⟨ch3846, gd3846⟩)
    | q + 7, h => exact absurd h (by omega)
  · exact sn_out (c := 60) (n := 7) rfl hi h
theorem al61 (i : Nat) (hi : i < 64) : sn_P1 (64 * 61 + i) := by
  rcases Nat.lt_or_ge i 1 with h | h
  · match i, h with
    | 0, _ => exact Or.inr (Or.inr ⟨ch3904, gd3904⟩)
    | q + 1, h => exact absurd h (by omega)
  · exact sn_out (c := 61) (n := 1) rfl hi h
theorem al62 (i : Nat) (hi : i < 64) : sn_P1 (64 * 62 + i) := by
  rcases Nat.lt_or_ge i 1 with h | h
  · match i, h with
    | 0, _ => exact Or.inr (Or.inr ⟨ch3968, gd3968⟩)
    | q + 1, h => exact absurd h (by omega)
  · exact sn_out (c := 62) (n := 1) rfl hi h
theorem al63 (i : Nat) (hi : i < 64) : sn_P1 (64 * 63 + i) := by
  rcases Nat.lt_or_ge i 9 with h | h
  · match i, h with
    | 0, _ => exact Or.inr (Or.inr ⟨ch4032, gd4032⟩)
    | 1, _ => exact Or.inr (Or.inr ⟨ch4033, gd4033⟩)
    | 2, _ => exact Or.inr (Or.inr ⟨ch4034, gd4034⟩)
    | 3, _ => exact Or.inr (Or.inr ⟨ch4035, gd4035⟩)
    | 4, _ => exact Or.inr (Or.inr ⟨ch4036, gd4036⟩)
    | 5, _ => exact Or.inr (Or.inr ⟨ch4037, gd4037⟩)
    | 6, _ => exact Or.inr (Or.inr ⟨ch4038, gd4038⟩)
    | 7, _ => exact Or.inr (Or.inr ⟨ch4039, gd4039⟩)
    | 8, _ => exact Or.inr (Or.inr ⟨ch4040, gd4040⟩)
    | q + 9, h => exact absurd h (by omega)
  · exact sn_out (c := 63) (n := 9) rfl hi h
theorem al64 (i : Nat) (hi : i < 64) : sn_P1 (64 * 64 + i) := sn_out (c := 64) (n := 0) rfl hi (Nat.zero_le _)
theorem al65 (i : Nat) (hi : i < 64) : sn_P1 (64 * 65 + i) := sn_out (c := 65) (n := 0) rfl hi (Nat.zero_le _)
theorem al66 (i : Nat) (hi : i < 64) : sn_P1 (64 * 66 + i) := sn_out (c := 66) (n := 0) rfl hi (Nat.zero_le _)
theorem al67 (i : Nat) (hi : i < 64) : sn_P1 (64 * 67 + i) := sn_out (c := 67) (n := 0) rfl hi (Nat.zero_le _)
theorem al68 (i : Nat) (hi : i < 64) : sn_P1 (64 * 68 + i) := sn_out (c := 68) (n := 0) rfl hi (Nat.zero_le _)
theorem al69 (i : Nat) (hi : i < 64) : sn_P1 (64 * 69 + i) := sn_out (c := 69) (n := 0) rfl hi (Nat.zero_le _)
theorem al70 (i : Nat) (hi : i < 64) : sn_P1 (64 * 70 + i) := sn_out (c := 70) (n := 0) rfl hi (Nat.zero_le _)
theorem al71 (i : Nat) (hi : i < 64) : sn_P1 (64 * 71 + i) := sn_out (c := 71) (n := 0) rfl hi (Nat.zero_le _)
theorem al72 (i : Nat) (hi : i < 64) : sn_P1 (64 * 72 + i) := by
  rcases Nat.lt_or_ge i 2 with h | h
  · match i, h with
    | 0, _ => exact Or.inr (Or.inr ⟨ch4608, gd4608⟩)
    | 1, _ => exact Or.inr (Or.inr ⟨ch4609, gd4609⟩)
    | q + 2, h => exact absurd h (by omega)
  · exact sn_out (c := 72) (n := 2) rfl hi h
theorem al73 (i : Nat) (hi : i < 64) : sn_P1 (64 * 73 + i) := sn_out (c := 73) (n := 0) rfl hi (Nat.zero_le _)
theorem al74 (i : Nat) (hi : i < 64) : sn_P1 (64 * 74 + i) := by
  rcases Nat.lt_or_ge i 1 with h | h
  · match i, h with
    | 0, _ => exact Or.inr (Or.inr ⟨ch4736, gd4736⟩)
    | q + 1, h => exact absurd h (by omega)
  · exact sn_out (c := 74) (n := 1) rfl hi h
theorem al75 (i : Nat) (hi : i < 64) : sn_P1 (64 * 75 + i) := by
  rcases Nat.lt_or_ge i 1 with h | h
  · match i, h with
    | 0, _ => exact Or.inr (Or.inr ⟨ch4800, gd4800⟩)
    | q + 1, h => exact absurd h (by omega)
  · exact sn_out (c := 75) (n := 1) rfl hi h
theorem al76 (i : Nat) (hi : i < 64) : sn_P1 (64 * 76 + i) := sn_out (c := 76) (n := 0) rfl hi (Nat.zero_le _)
theorem al77 (i : Nat) (hi : i < 64) : sn_P1 (64 * 77 + i) := sn_out (c := 77) (n := 0) rfl hi (Nat.zero_le _)
theorem al78 (i : Nat) (hi : i < 64) : sn_P1 (64 * 78 + i) := sn_out (c := 78) (n := 0) rfl hi (Nat.zero_le _)
theorem al79 (i : Nat) (hi : i < 64) : sn_P1 (64 * 79 + i) := sn_out (c := 79) (n := 0) rfl hi (Nat.zero_le _)
theorem al80 (i : Nat) (hi : i < 64) : sn_P1 (64 * 80 + i) := sn_out (c := 80) (n := 0) rfl hi (Nat.zero_le _)
theorem al81 (i : Nat) (hi : i < 64) : sn_P1 (64 * 81 + i) := sn_out (c := 81) (n := 0) rfl hi (Nat.zero_le _)
theorem al82 (i : Nat) (hi : i < 64) : sn_P1 (64 * 82 + i) := sn_out (c := 82) (n := 0) rfl hi (Nat.zero_le _)
theorem al83 (i : Nat) (hi : i < 64) : sn_P1 (64 * 83 + i) := sn_out (c := 83) (n := 0) rfl hi (Nat.zero_le _)
theorem al84 (i : Nat) (hi : i < 64) : sn_P1 (64 * 84 + i) := sn_out (c := 84) (n := 0) rfl hi (Nat.zero_le _)
theorem al85 (i : Nat) (hi : i < 64) : sn_P1 (64 * 85 + i) := sn_out (c := 85) (n := 0) rfl hi (Nat.zero_le _)
theorem al86 (i : Nat) (hi : i < 64) : sn_P1 (64 * 86 + i) := sn_out (c := 86) (n := 0) rfl hi (Nat.zero_le _)
theorem al87 (i : Nat) (hi : i < 64) : sn_P1 (64 * 87 + i) := sn_out (c := 87) (n := 0) rfl hi (Nat.zero_le _)
theorem al88 (i : Nat) (hi : i < 64) : sn_P1 (64 * 88 + i) := sn_out (c := 88) (n := 0) rfl hi (Nat.zero_le _)
theorem al89 (i : Nat) (hi : i < 64) : sn_P1 (64 * 89 + i) := sn_out (c := 89) (n := 0) rfl hi (Nat.zero_le _)
theorem sn_all : sn_All := by
  intro k
  have hk : k = 64 * (k / 64) + k % 64 := by omega
  have hi : k % 64 < 64 := by omega
  show sn_P1 k
  rw [hk]
  generalize k / 64 = c, k % 64 = i at hi ⊢
  rcases Nat.lt_or_ge c 90 with h | h
  · match c, h with
    | 0, _ => exact al0 i hi
    | 1, _ => exact al1 i hi
    | 2, _ => exact al2 i hi
    | 3, _ => exact al3 i hi
    | 4, _ => exact al4 i hi
    | 5, _ => exact al5 i hi
    | 6, _ => exact al6 i hi
    | 7, _ => exact al7 i hi
    | 8, _ => exact al8 i hi
    | 9, _ => exact al9 i hi
    | 10, _ => exact al10 i hi
    | 11, _ => exact al11 i hi
    | 12, _ => exact al12 i hi
    | 13, _ => exact al13 i hi
    | 14, _ => exact al14 i hi
    | 15, _ => exact al15 i hi
    | 16, _ => exact al16 i hi
    | 17, _ => exact al17 i hi
    | 18, _ => exact al18 i hi
    | 19, _ => exact al19 i hi
    | 20, _ => exact al20 i hi
    | 21, _ => exact al21 i hi
    | 22, _ => exact al22 i hi
    | 23, _ => exact al23 i hi
    | 24, _ => exact al24 i hi
    | 25, _ => exact al25 i hi
    | 26, _ => exact al26 i hi
    | 27, _ => exact al27 i hi
    | 28, _ => exact al28 i hi
    | 29, _ => exact al29 i hi
    | 30, _ => exact al30 i hi
    | 31, _ => exact al31 i hi
    | 32, _ => exact al32 i hi
    | 33, _ => exact al33 i hi
    | 34, _ => exact al34 i hi
    | 35, _ => exact al35 i hi
    | 36, _ => exact al36 i hi
    | 37, _ => exact al37 i hi
    | 38, _ => exact al38 i hi
    | 39, _ => exact al39 i hi
    | 40, _ => exact al40 i hi
    | 41, _ => exact al41 i hi
    | 42, _ => exact al42 i hi
    | 43, _ => exact al43 i hi
    | 44, _ => exact al44 i hi
    | 45, _ => exact al45 i hi
    | 46, _ => exact al46 i hi
    | 47, _ => exact al47 i hi
    | 48, _ => exact al48 i hi
    | 49, _ => exact al49 i hi
    | 50, _ => exact al50 i hi
    | 51, _ => exact al51 i hi
    | 52, _ => exact al52 i hi
    | 53, _ => exact al53 i hi
    | 54, _ => exact al54 i hi
    | 55, _ => exact al55 i hi
    | 56, _ => exact al56 i hi
    | 57, _ => exact al57 i hi
    | 58, _ => exact al58 i hi
    | 59, _ => exact al59 i hi
    | 60, _ => exact al60 i hi
    | 61, _ => exact al61 i hi
    | 62, _ => exact al62 i hi
    | 63, _ => exact al63 i hi
    | 64, _ => exact al64 i hi
    | 65, _ => exact al65 i hi
    | 66, _ => exact al66 i hi
    | 67, _ => exact al67 i hi
    | 68, _ => exact al68 i hi
    | 69, _ => exact al69 i hi
    | 70, _ => exact al70 i hi
    | 71, _ => exact al71 i hi
    | 72, _ => exact al72 i hi
    | 73, _ => exact al73 i hi
    | 74, _ => exact al74 i hi
    | 75, _ => exact al75 i hi
    | 76, _ => exact al76 i hi
    | 77, _ => exact al77 i hi
    | 78, _ => exact al78 i hi
    | 79, _ => exact al79 i hi
    | 80, _ => exact al80 i hi
    | 81, _ => exact al81 i hi
    | 82, _ => exact al82 i hi
    | 83, _ => exact al83 i hi
    | 84, _ => exact al84 i hi
    | 85, _ => exact al85 i hi
    | 86, _ => exact al86 i hi
    | 87, _ => exact al87 i hi
    | 88, _ => exact al88 i hi
    | 89, _ => exact al89 i hi
    | q + 90, h => exact absurd h (by omega)
  · refine sn_out (n := 0) ?_ hi (Nat.zero_le _)
    have e : pm_all[c]? = none := List.getElem?_eq_none (by have : pm_all.length = 90 := rfl; omega)
    rw [List.getD_eq_getElem?_getD, e]; rfl
