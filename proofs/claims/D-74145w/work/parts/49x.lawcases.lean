/-! THE LAW: its cases (printed by lawgen.py) -/
section LC
variable {D B s o n N M k i : Nat} {α : Nat → Nat} {f : Nat → Int32} {S : kS} {h : zH} {x5 x6 : Value}
/-- what a case comes to -/
def wG (D B s o n : Nat) (α : Nat → Nat) (f : Nat → Int32) (N M k i : Nat) (pc : Nat) (h : zH) (x5 x6 : Value) : Prop := ∃ S' h' y5 y6, zs PG mL_law pc [.ref s, .ref D, .ref (α 0), .ref o, .int (nI i), x5, x6, zJ] [] h = zs PG mL_law 2558 [.ref s, .ref D, .ref (α 0), .ref o, .int (nI i), y5, y6, zJ] [] h' ∧ wW D B s o n α f N M (k + 1) S' h'
theorem L_mixes (Z : wZ D B s o α) (W : wW D B s o n α f N M k S h) (hi : i + 5 ≤ n) (hn : n < 2147483648) : wG D B s o n α f N M k i 292 h x5 x6 := by
  obtain ⟨h1, d1, Q⟩ := D_mixes W.1 (f (i + 1)) (f (i + 2))
  obtain ⟨h2, m1, W2, z1, i1⟩ := w_step Z W (i_mixes W.2.1 (f (i + 1)) (f (i + 2))) hn Q (fun σ hR => M_mixes Z.1 σ h1 hR (f (i + 1)) (f (i + 2)))
  have z0 := W.2.2.2.1.a hn
  have i0 := W.1.is
  refine ⟨_, h2, x5, x6, ?_, W2⟩
  simp (disch := omega) only [uL_law_at292, uL_law_at293, uL_law_at294, uL_law_at296, uL_law_at297, uL_law_at298, uL_law_at299, uL_law_at300, uL_law_at302, uL_law_at303, uL_law_at304, uL_law_at305, uL_law_at308, uL_law_at309, uL_law_at310, uL_law_at312, uL_law_at313, uL_law_at314, uL_law_at315, uL_law_at316, uL_law_at318, uL_law_at319, uL_law_at320, uL_law_at321, uL_law_at324, zKK, zA, zlg, z0, i0, d1, z1, i1, m1, eq_self]
theorem L_mark (Z : wZ D B s o α) (W : wW D B s o n α f N M k S h) (hi : i + 5 ≤ n) (hn : n < 2147483648) : wG D B s o n α f N M k i 329 h x5 x6 := by
  obtain ⟨h1, d1, Q⟩ := D_mark W.1 (f (i + 1))
  obtain ⟨h2, m1, W2, z1, i1⟩ := w_step Z W W.2.1 hn Q (fun σ hR => M_mark Z.1 σ h1 hR (f (i + 1)))
  have z0 := W.2.2.2.1.a hn
  have i0 := W.1.is
  refine ⟨_, h2, x5, x6, ?_, W2⟩
  simp (disch := omega) only [uL_law_at329, uL_law_at330, uL_law_at331, uL_law_at333, uL_law_at334, uL_law_at335, uL_law_at336, uL_law_at339, uL_law_at340, uL_law_at341, uL_law_at343, uL_law_at344, uL_law_at345, uL_law_at346, uL_law_at349, zKK, zA, zlg, z0, i0, d1, z1, i1, m1, eq_self]
theorem L_place (Z : wZ D B s o α) (W : wW D B s o n α f N M k S h) (hi : i + 5 ≤ n) (hn : n < 2147483648) : wG D B s o n α f N M k i 354 h x5 x6 := by
  obtain ⟨h1, d1, Q⟩ := D_place W.1 (f (i + 1)) (f (i + 2))
  obtain ⟨h2, m1, W2, z1, i1⟩ := w_step Z W (i_place W.2.1 (f (i + 1)) (f (i + 2))) hn Q (fun σ hR => M_place Z.1 σ h1 hR (f (i + 1)) (f (i + 2)))
  have z0 := W.2.2.2.1.a hn
  have i0 := W.1.is
  refine ⟨_, h2, x5, x6, ?_, W2⟩
  simp (disch := omega) only [uL_law_at354, uL_law_at355, uL_law_at356, uL_law_at358, uL_law_at359, uL_law_at360, uL_law_at361, uL_law_at362, uL_law_at364, uL_law_at365, uL_law_at366, uL_law_at367, uL_law_at370, uL_law_at371, uL_law_at372, uL_law_at374, uL_law_at375, uL_law_at376, uL_law_at377, uL_law_at378, uL_law_at380, uL_law_at381, uL_law_at382, uL_law_at383, uL_law_at386, zKK, zA, zlg, z0, i0, d1, z1, i1, m1, eq_self]
theorem L_opens (Z : wZ D B s o α) (W : wW D B s o n α f N M k S h) (hi : i + 5 ≤ n) (hn : n < 2147483648) : wG D B s o n α f N M k i 391 h x5 x6 := by
  obtain ⟨h1, d1, Q⟩ := D_opens W.1 (f (i + 1)) (f (i + 2)) (f (i + 3))
  obtain ⟨h2, m1, W2, z1, i1⟩ := w_step Z W (i_opens W.2.1 (f (i + 1)) (f (i + 2)) (f (i + 3))) hn Q (fun σ hR => M_opens Z.1 σ h1 hR (f (i + 1)) (f (i + 2)) (f (i + 3)))
  have z0 := W.2.2.2.1.a hn
  have i0 := W.1.is
  refine ⟨_, h2, x5, x6, ?_, W2⟩
  simp (disch := omega) only [uL_law_at391, uL_law_at392, uL_law_at393, uL_law_at395, uL_law_at396, uL_law_at397, uL_law_at398, uL_law_at399, uL_law_at401, uL_law_at402, uL_law_at403, uL_law_at404, uL_law_at405, uL_law_at407, uL_law_at408, uL_law_at409, uL_law_at410, uL_law_at413, uL_law_at414, uL_law_at415, uL_law_at417, uL_law_at418, uL_law_at419, uL_law_at420, uL_law_at421, uL_law_at423, uL_law_at424, uL_law_at425, uL_law_at426, uL_law_at427, uL_law_at429, uL_law_at430, uL_law_at431, uL_law_at432, uL_law_at435, zKK, zA, zlg, z0, i0, d1, z1, i1, m1, eq_self]
theorem L_adds (Z : wZ D B s o α) (W : wW D B s o n α f N M k S h) (hi : i + 5 ≤ n) (hn : n < 2147483648) : wG D B s o n α f N M k i 440 h x5 x6 := by
  obtain ⟨h1, d1, Q⟩ := D_adds W.1 (f (i + 1)) (f (i + 2))
  obtain ⟨h2, m1, W2, z1, i1⟩ := w_step Z W (i_adds W.2.1 (f (i + 1)) (f (i + 2))) hn Q (fun σ hR => M_adds Z.1 σ h1 hR W.2.1 (f (i + 1)) (f (i + 2)))
  have z0 := W.2.2.2.1.a hn
  have i0 := W.1.is
  refine ⟨_, h2, x5, x6, ?_, W2⟩
  simp (disch := omega) only [uL_law_at440, uL_law_at441, uL_law_at442, uL_law_at444, uL_law_at445, uL_law_at446, uL_law_at447, uL_law_at448, uL_law_at450, uL_law_at451, uL_law_at452, uL_law_at453, uL_law_at456, uL_law_at457, uL_law_at458, uL_law_at460, uL_law_at461, uL_law_at462, uL_law_at463, uL_law_at464, uL_law_at466, uL_law_at467, uL_law_at468, uL_law_at469, uL_law_at472, zKK, zA, zlg, z0, i0, d1, z1, i1, m1, eq_self]
theorem L_runs (Z : wZ D B s o α) (W : wW D B s o n α f N M k S h) (hi : i + 5 ≤ n) (hn : n < 2147483648) : wG D B s o n α f N M k i 477 h x5 x6 := by
  obtain ⟨h1, d1, Q⟩ := D_runs W.1 (f (i + 1)) (f (i + 2)) (f (i + 3)) (f (i + 4))
  obtain ⟨h2, m1, W2, z1, i1⟩ := w_step Z W (i_runs W.2.1 (f (i + 1)) (f (i + 2)) (f (i + 3)) (f (i + 4))) hn Q (fun σ hR => M_runs Z.1 σ h1 hR W.2.1 (f (i + 1)) (f (i + 2)) (f (i + 3)) (f (i + 4)))
  have z0 := W.2.2.2.1.a hn
  have i0 := W.1.is
  refine ⟨_, h2, x5, x6, ?_, W2⟩
  simp (disch := omega) only [uL_law_at477, uL_law_at478, uL_law_at479, uL_law_at481, uL_law_at482, uL_law_at483, uL_law_at484, uL_law_at485, uL_law_at487, uL_law_at488, uL_law_at489, uL_law_at490, uL_law_at491, uL_law_at493, uL_law_at494, uL_law_at495, uL_law_at496, uL_law_at497, uL_law_at499, uL_law_at500, uL_law_at501, uL_law_at502, uL_law_at505, uL_law_at506, uL_law_at507, uL_law_at509, uL_law_at510, uL_law_at511, uL_law_at512, uL_law_at513, uL_law_at515, uL_law_at516, uL_law_at517, uL_law_at518, uL_law_at519, uL_law_at521, uL_law_at522, uL_law_at523, uL_law_at524, uL_law_at525, uL_law_at527, uL_law_at528, uL_law_at529, uL_law_at530, uL_law_at533, zKK, zA, zlg, z0, i0, d1, z1, i1, m1, eq_self]
theorem L_sign (Z : wZ D B s o α) (W : wW D B s o n α f N M k S h) (hi : i + 5 ≤ n) (hn : n < 2147483648) : wG D B s o n α f N M k i 538 h x5 x6 := by
  obtain ⟨h1, d1, Q⟩ := D_sign W.1 W.2.1 (f (i + 1))
  obtain ⟨h2, m1, W2, z1, i1⟩ := w_step Z W (i_sign W.2.1 (f (i + 1))) hn Q (fun σ hR => M_sign Z.1 σ h1 hR W.2.1 (f (i + 1)))
  have z0 := W.2.2.2.1.a hn
  have i0 := W.1.is
  refine ⟨_, h2, x5, x6, ?_, W2⟩
  simp (disch := omega) only [uL_law_at538, uL_law_at539, uL_law_at540, uL_law_at542, uL_law_at543, uL_law_at544, uL_law_at545, uL_law_at548, uL_law_at549, uL_law_at550, uL_law_at552, uL_law_at553, uL_law_at554, uL_law_at555, uL_law_at558, zKK, zA, zlg, z0, i0, d1, z1, i1, m1, eq_self]
theorem L_end (Z : wZ D B s o α) (W : wW D B s o n α f N M k S h) (hi : i + 5 ≤ n) (hn : n < 2147483648) : wG D B s o n α f N M k i 563 h x5 x6 := by
  obtain ⟨h1, d1, Q⟩ := D_end W.1 W.2.1 (f (i + 1))
  obtain ⟨h2, m1, W2, z1, i1⟩ := w_step Z W (i_end W.2.1 (f (i + 1))) hn Q (fun σ hR => M_end Z.1 σ h1 hR W.2.1 (f (i + 1)))
  have z0 := W.2.2.2.1.a hn
  have i0 := W.1.is
  refine ⟨_, h2, x5, x6, ?_, W2⟩
  simp (disch := omega) only [uL_law_at563, uL_law_at564, uL_law_at565, uL_law_at567, uL_law_at568, uL_law_at569, uL_law_at570, uL_law_at573, uL_law_at574, uL_law_at575, uL_law_at577, uL_law_at578, uL_law_at579, uL_law_at580, uL_law_at583, zKK, zA, zlg, z0, i0, d1, z1, i1, m1, eq_self]
theorem L_tells (Z : wZ D B s o α) (W : wW D B s o n α f N M k S h) (hi : i + 5 ≤ n) (hn : n < 2147483648) : wG D B s o n α f N M k i 588 h x5 x6 := by
  obtain ⟨h1, d1, Q⟩ := D_tells W.1 W.2.1 (f (i + 1))
  obtain ⟨h2, m1, W2, z1, i1⟩ := w_step Z W (i_tells W.2.1 (f (i + 1))) hn Q (fun σ hR => M_tells Z.1 σ h1 hR W.2.1 (f (i + 1)))
  have z0 := W.2.2.2.1.a hn
  have i0 := W.1.is
  refine ⟨_, h2, x5, x6, ?_, W2⟩
  simp (disch := omega) only [uL_law_at588, uL_law_at589, uL_law_at590, uL_law_at592, uL_law_at593, uL_law_at594, uL_law_at595, uL_law_at598, uL_law_at599, uL_law_at600, uL_law_at602, uL_law_at603, uL_law_at604, uL_law_at605, uL_law_at608, zKK, zA, zlg, z0, i0, d1, z1, i1, m1, eq_self]
theorem L_takes (Z : wZ D B s o α) (W : wW D B s o n α f N M k S h) (hi : i + 5 ≤ n) (hn : n < 2147483648) : wG D B s o n α f N M k i 613 h x5 x6 := by
  obtain ⟨h1, d1, Q⟩ := D_takes W.1 (f (i + 1)) (f (i + 2))
  obtain ⟨h2, m1, W2, z1, i1⟩ := w_step Z W (i_takes W.2.1 (f (i + 1)) (f (i + 2))) hn Q (fun σ hR => M_takes Z.1 σ h1 hR W.2.1 (f (i + 1)) (f (i + 2)))
  have z0 := W.2.2.2.1.a hn
  have i0 := W.1.is
  refine ⟨_, h2, x5, x6, ?_, W2⟩
  simp (disch := omega) only [uL_law_at613, uL_law_at614, uL_law_at615, uL_law_at617, uL_law_at618, uL_law_at619, uL_law_at620, uL_law_at621, uL_law_at623, uL_law_at624, uL_law_at625, uL_law_at626, uL_law_at629, uL_law_at630, uL_law_at631, uL_law_at633, uL_law_at634, uL_law_at635, uL_law_at636, uL_law_at637, uL_law_at639, uL_law_at640, uL_law_at641, uL_law_at642, uL_law_at645, zKK, zA, zlg, z0, i0, d1, z1, i1, m1, eq_self]
theorem L_dense (Z : wZ D B s o α) (W : wW D B s o n α f N M k S h) (hi : i + 5 ≤ n) (hn : n < 2147483648) : wG D B s o n α f N M k i 650 h x5 x6 := by
  obtain ⟨h1, d1, Q⟩ := D_dense W.1 (f (i + 1))
  obtain ⟨h2, m1, W2, z1, i1⟩ := w_step Z W (i_dense W.2.1 (f (i + 1))) hn Q (fun σ hR => M_dense Z.1 σ h1 hR W.2.1 (f (i + 1)))
  have z0 := W.2.2.2.1.a hn
  have i0 := W.1.is
  refine ⟨_, h2, x5, x6, ?_, W2⟩
  simp (disch := omega) only [uL_law_at650, uL_law_at651, uL_law_at652, uL_law_at654, uL_law_at655, uL_law_at656, uL_law_at657, uL_law_at660, uL_law_at661, uL_law_at662, uL_law_at664, uL_law_at665, uL_law_at666, uL_law_at667, uL_law_at670, zKK, zA, zlg, z0, i0, d1, z1, i1, m1, eq_self]
theorem L_folds (Z : wZ D B s o α) (W : wW D B s o n α f N M k S h) (hi : i + 5 ≤ n) (hn : n < 2147483648) : wG D B s o n α f N M k i 675 h x5 x6 := by
  obtain ⟨h1, d1, Q⟩ := D_folds W.1 (f (i + 1)) (f (i + 2))
  obtain ⟨h2, m1, W2, z1, i1⟩ := w_step Z W (i_folds W.2.1 (f (i + 1)) (f (i + 2))) hn Q (fun σ hR => M_folds Z.1 σ h1 hR W.2.1 (f (i + 1)) (f (i + 2)))
  have z0 := W.2.2.2.1.a hn
  have i0 := W.1.is
  refine ⟨_, h2, x5, x6, ?_, W2⟩
  simp (disch := omega) only [uL_law_at675, uL_law_at676, uL_law_at677, uL_law_at679, uL_law_at680, uL_law_at681, uL_law_at682, uL_law_at683, uL_law_at685, uL_law_at686, uL_law_at687, uL_law_at688, uL_law_at691, uL_law_at692, uL_law_at693, uL_law_at695, uL_law_at696, uL_law_at697, uL_law_at698, uL_law_at699, uL_law_at701, uL_law_at702, uL_law_at703, uL_law_at704, uL_law_at707, zKK, zA, zlg, z0, i0, d1, z1, i1, m1, eq_self]
theorem L_copies (Z : wZ D B s o α) (W : wW D B s o n α f N M k S h) (hi : i + 5 ≤ n) (hn : n < 2147483648) : wG D B s o n α f N M k i 712 h x5 x6 := by
  obtain ⟨h1, d1, Q⟩ := D_copies W.1 (f (i + 1)) (f (i + 2))
  obtain ⟨h2, m1, W2, z1, i1⟩ := w_step Z W (i_copies W.2.1 (f (i + 1)) (f (i + 2))) hn Q (fun σ hR => M_copies Z.1 σ h1 hR W.2.1 (f (i + 1)) (f (i + 2)))
  have z0 := W.2.2.2.1.a hn
  have i0 := W.1.is
  refine ⟨_, h2, x5, x6, ?_, W2⟩
  simp (disch := omega) only [uL_law_at712, uL_law_at713, uL_law_at714, uL_law_at716, uL_law_at717, uL_law_at718, uL_law_at719, uL_law_at720, uL_law_at722, uL_law_at723, uL_law_at724, uL_law_at725, uL_law_at728, uL_law_at729, uL_law_at730, uL_law_at732, uL_law_at733, uL_law_at734, uL_law_at735, uL_law_at736, uL_law_at738, uL_law_at739, uL_law_at740, uL_law_at741, uL_law_at744, zKK, zA, zlg, z0, i0, d1, z1, i1, m1, eq_self]
theorem L_joins (Z : wZ D B s o α) (W : wW D B s o n α f N M k S h) (hi : i + 5 ≤ n) (hn : n < 2147483648) : wG D B s o n α f N M k i 749 h x5 x6 := by
  obtain ⟨h1, d1, Q⟩ := D_joins W.1 (f (i + 1)) (f (i + 2)) (f (i + 3))
  obtain ⟨h2, m1, W2, z1, i1⟩ := w_step Z W (i_joins W.2.1 (f (i + 1)) (f (i + 2)) (f (i + 3))) hn Q (fun σ hR => M_joins Z.1 σ h1 hR W.2.1 (f (i + 1)) (f (i + 2)) (f (i + 3)))
  have z0 := W.2.2.2.1.a hn
  have i0 := W.1.is
  refine ⟨_, h2, x5, x6, ?_, W2⟩
  simp (disch := omega) only [uL_law_at749, uL_law_at750, uL_law_at751, uL_law_at753, uL_law_at754, uL_law_at755, uL_law_at756, uL_law_at757, uL_law_at759, uL_law_at760, uL_law_at761, uL_law_at762, uL_law_at763, uL_law_at765, uL_law_at766, uL_law_at767, uL_law_at768, uL_law_at771, uL_law_at772, uL_law_at773, uL_law_at775, uL_law_at776, uL_law_at777, uL_law_at778, uL_law_at779, uL_law_at781, uL_law_at782, uL_law_at783, uL_law_at784, uL_law_at785, uL_law_at787, uL_law_at788, uL_law_at789, uL_law_at790, uL_law_at793, zKK, zA, zlg, z0, i0, d1, z1, i1, m1, eq_self]
theorem L_gathers (Z : wZ D B s o α) (W : wW D B s o n α f N M k S h) (hi : i + 5 ≤ n) (hn : n < 2147483648) : wG D B s o n α f N M k i 798 h x5 x6 := by
  obtain ⟨h1, d1, Q⟩ := D_gathers W.1 (f (i + 1)) (f (i + 2))
  obtain ⟨h2, m1, W2, z1, i1⟩ := w_step Z W (i_gathers W.2.1 (f (i + 1)) (f (i + 2))) hn Q (fun σ hR => M_gathers Z.1 σ h1 hR W.2.1 (f (i + 1)) (f (i + 2)))
  have z0 := W.2.2.2.1.a hn
  have i0 := W.1.is
  refine ⟨_, h2, x5, x6, ?_, W2⟩
  simp (disch := omega) only [uL_law_at798, uL_law_at799, uL_law_at800, uL_law_at802, uL_law_at803, uL_law_at804, uL_law_at805, uL_law_at806, uL_law_at808, uL_law_at809, uL_law_at810, uL_law_at811, uL_law_at814, uL_law_at815, uL_law_at816, uL_law_at818, uL_law_at819, uL_law_at820, uL_law_at821, uL_law_at822, uL_law_at824, uL_law_at825, uL_law_at826, uL_law_at827, uL_law_at830, zKK, zA, zlg, z0, i0, d1, z1, i1, m1, eq_self]
theorem L_puts (Z : wZ D B s o α) (W : wW D B s o n α f N M k S h) (hi : i + 5 ≤ n) (hn : n < 2147483648) : wG D B s o n α f N M k i 835 h x5 x6 := by
  obtain ⟨h1, d1, Q⟩ := D_puts W.1 (f (i + 1)) (f (i + 2)) ((f (i + 3)).toInt64 <<< ((nI 32).toInt64 &&& 63) ||| ((f (i + 4)).toInt64 &&& lN 4294967295))
  obtain ⟨h2, m1, W2, z1, i1⟩ := w_step Z W (i_puts W.2.1 (f (i + 1)) (f (i + 2)) ((f (i + 3)).toInt64 <<< ((nI 32).toInt64 &&& 63) ||| ((f (i + 4)).toInt64 &&& lN 4294967295))) hn Q (fun σ hR => M_puts Z.1 σ h1 hR W.2.1 (f (i + 1)) (f (i + 2)) ((f (i + 3)).toInt64 <<< ((nI 32).toInt64 &&& 63) ||| ((f (i + 4)).toInt64 &&& lN 4294967295)))
  have z0 := W.2.2.2.1.a hn
  have i0 := W.1.is
  refine ⟨_, h2, x5, x6, ?_, W2⟩
  simp (disch := omega) only [uL_law_at835, uL_law_at836, uL_law_at837, uL_law_at839, uL_law_at840, uL_law_at841, uL_law_at842, uL_law_at843, uL_law_at845, uL_law_at846, uL_law_at847, uL_law_at848, uL_law_at849, uL_law_at851, uL_law_at852, uL_law_at853, uL_law_at854, uL_law_at855, uL_law_at857, uL_law_at858, uL_law_at859, uL_law_at861, uL_law_at862, uL_law_at863, uL_law_at864, uL_law_at865, uL_law_at868, uL_law_at869, uL_law_at870, uL_law_at873, uL_law_at874, uL_law_at875, uL_law_at877, uL_law_at878, uL_law_at879, uL_law_at880, uL_law_at881, uL_law_at883, uL_law_at884, uL_law_at885, uL_law_at886, uL_law_at887, uL_law_at889, uL_law_at890, uL_law_at891, uL_law_at892, uL_law_at893, uL_law_at895, uL_law_at896, uL_law_at897, uL_law_at899, uL_law_at900, uL_law_at901, uL_law_at902, uL_law_at903, uL_law_at906, uL_law_at907, uL_law_at908, uL_law_at911, zKK, zA, zlg, z0, i0, d1, z1, i1, m1, eq_self]
theorem L_swaps (Z : wZ D B s o α) (W : wW D B s o n α f N M k S h) (hi : i + 5 ≤ n) (hn : n < 2147483648) : wG D B s o n α f N M k i 916 h x5 x6 := by
  obtain ⟨h1, d1, Q⟩ := D_swaps W.1 (f (i + 1)) (f (i + 2))
  obtain ⟨h2, m1, W2, z1, i1⟩ := w_step Z W (i_swaps W.2.1 (f (i + 1)) (f (i + 2))) hn Q (fun σ hR => M_swaps Z.1 σ h1 hR W.2.1 (f (i + 1)) (f (i + 2)))
  have z0 := W.2.2.2.1.a hn
  have i0 := W.1.is
  refine ⟨_, h2, x5, x6, ?_, W2⟩
  simp (disch := omega) only [uL_law_at916, uL_law_at917, uL_law_at918, uL_law_at920, uL_law_at921, uL_law_at922, uL_law_at923, uL_law_at924, uL_law_at926, uL_law_at927, uL_law_at928, uL_law_at929, uL_law_at932, uL_law_at933, uL_law_at934, uL_law_at936, uL_law_at937, uL_law_at938, uL_law_at939, uL_law_at940, uL_law_at942, uL_law_at943, uL_law_at944, uL_law_at945, uL_law_at948, zKK, zA, zlg, z0, i0, d1, z1, i1, m1, eq_self]
theorem L_keeps (Z : wZ D B s o α) (W : wW D B s o n α f N M k S h) (hi : i + 5 ≤ n) (hn : n < 2147483648) : wG D B s o n α f N M k i 953 h x5 x6 := by
  obtain ⟨h1, d1, Q⟩ := D_keeps W.1 (f (i + 1)) (f (i + 2)) (f (i + 3))
  obtain ⟨h2, m1, W2, z1, i1⟩ := w_step Z W (i_keeps W.2.1 (f (i + 1)) (f (i + 2)) (f (i + 3))) hn Q (fun σ hR => M_keeps Z.1 σ h1 hR W.2.1 (f (i + 1)) (f (i + 2)) (f (i + 3)))
  have z0 := W.2.2.2.1.a hn
  have i0 := W.1.is
  refine ⟨_, h2, x5, x6, ?_, W2⟩
  simp (disch := omega) only [uL_law_at953, uL_law_at954, uL_law_at955, uL_law_at957, uL_law_at958, uL_law_at959, uL_law_at960, uL_law_at961, uL_law_at963, uL_law_at964, uL_law_at965, uL_law_at966, uL_law_at967, uL_law_at969, uL_law_at970, uL_law_at971, uL_law_at972, uL_law_at975, uL_law_at976, uL_law_at977, uL_law_at979, uL_law_at980, uL_law_at981, uL_law_at982, uL_law_at983, uL_law_at985, uL_law_at986, uL_law_at987, uL_law_at988, uL_law_at989, uL_law_at991, uL_law_at992, uL_law_at993, uL_law_at994, uL_law_at997, zKK, zA, zlg, z0, i0, d1, z1, i1, m1, eq_self]
theorem L_less (Z : wZ D B s o α) (W : wW D B s o n α f N M k S h) (hi : i + 5 ≤ n) (hn : n < 2147483648) : wG D B s o n α f N M k i 1002 h x5 x6 := by
  obtain ⟨h1, d1, Q⟩ := D_less W.1 (f (i + 1)) (f (i + 2)) (f (i + 3))
  obtain ⟨h2, m1, W2, z1, i1⟩ := w_step Z W (i_less W.2.1 (f (i + 1)) (f (i + 2)) (f (i + 3))) hn Q (fun σ hR => M_less Z.1 σ h1 hR W.2.1 (f (i + 1)) (f (i + 2)) (f (i + 3)))
  have z0 := W.2.2.2.1.a hn
  have i0 := W.1.is
  refine ⟨_, h2, x5, x6, ?_, W2⟩
  simp (disch := omega) only [uL_law_at1002, uL_law_at1003, uL_law_at1004, uL_law_at1006, uL_law_at1007, uL_law_at1008, uL_law_at1009, uL_law_at1010, uL_law_at1012, uL_law_at1013, uL_law_at1014, uL_law_at1015, uL_law_at1016, uL_law_at1018, uL_law_at1019, uL_law_at1020, uL_law_at1021, uL_law_at1024, uL_law_at1025, uL_law_at1026, uL_law_at1028, uL_law_at1029, uL_law_at1030, uL_law_at1031, uL_law_at1032, uL_law_at1034, uL_law_at1035, uL_law_at1036, uL_law_at1037, uL_law_at1038, uL_law_at1040, uL_law_at1041, uL_law_at1042, uL_law_at1043, uL_law_at1046, zKK, zA, zlg, z0, i0, d1, z1, i1, m1, eq_self]
theorem L_splits (Z : wZ D B s o α) (W : wW D B s o n α f N M k S h) (hi : i + 5 ≤ n) (hn : n < 2147483648) : wG D B s o n α f N M k i 1051 h x5 x6 := by
  obtain ⟨h1, d1, Q⟩ := D_splits W.1 (f (i + 1)) (f (i + 2)) (f (i + 3))
  obtain ⟨h2, m1, W2, z1, i1⟩ := w_step Z W (i_splits W.2.1 (f (i + 1)) (f (i + 2)) (f (i + 3))) hn Q (fun σ hR => M_splits Z.1 σ h1 hR W.2.1 (f (i + 1)) (f (i + 2)) (f (i + 3)))
  have z0 := W.2.2.2.1.a hn
  have i0 := W.1.is
  refine ⟨_, h2, x5, x6, ?_, W2⟩
  simp (disch := omega) only [uL_law_at1051, uL_law_at1052, uL_law_at1053, uL_law_at1055, uL_law_at1056, uL_law_at1057, uL_law_at1058, uL_law_at1059, uL_law_at1061, uL_law_at1062, uL_law_at1063, uL_law_at1064, uL_law_at1065, uL_law_at1067, uL_law_at1068, uL_law_at1069, uL_law_at1070, uL_law_at1073, uL_law_at1074, uL_law_at1075, uL_law_at1077, uL_law_at1078, uL_law_at1079, uL_law_at1080, uL_law_at1081, uL_law_at1083, uL_law_at1084, uL_law_at1085, uL_law_at1086, uL_law_at1087, uL_law_at1089, uL_law_at1090, uL_law_at1091, uL_law_at1092, uL_law_at1095, zKK, zA, zlg, z0, i0, d1, z1, i1, m1, eq_self]
theorem L_guess (Z : wZ D B s o α) (W : wW D B s o n α f N M k S h) (hi : i + 5 ≤ n) (hn : n < 2147483648) : wG D B s o n α f N M k i 1100 h x5 x6 := by
  obtain ⟨h1, d1, Q⟩ := D_guess W.1 (f (i + 1))
  obtain ⟨h2, m1, W2, z1, i1⟩ := w_step Z W (i_guess W.2.1 (f (i + 1))) hn Q (fun σ hR => M_guess Z.1 σ h1 hR W.2.1 (f (i + 1)))
  have z0 := W.2.2.2.1.a hn
  have i0 := W.1.is
  refine ⟨_, h2, x5, x6, ?_, W2⟩
  simp (disch := omega) only [uL_law_at1100, uL_law_at1101, uL_law_at1102, uL_law_at1104, uL_law_at1105, uL_law_at1106, uL_law_at1107, uL_law_at1110, uL_law_at1111, uL_law_at1112, uL_law_at1114, uL_law_at1115, uL_law_at1116, uL_law_at1117, uL_law_at1120, zKK, zA, zlg, z0, i0, d1, z1, i1, m1, eq_self]
theorem L_roughly (Z : wZ D B s o α) (W : wW D B s o n α f N M k S h) (hi : i + 5 ≤ n) (hn : n < 2147483648) : wG D B s o n α f N M k i 1125 h x5 x6 := by
  obtain ⟨h1, d1, Q⟩ := D_roughly W.1 (f (i + 1))
  obtain ⟨h2, m1, W2, z1, i1⟩ := w_step Z W (i_roughly W.2.1 (f (i + 1))) hn Q (fun σ hR => M_roughly Z.1 σ h1 hR W.2.1 (f (i + 1)))
  have z0 := W.2.2.2.1.a hn
  have i0 := W.1.is
  refine ⟨_, h2, x5, x6, ?_, W2⟩
  simp (disch := omega) only [uL_law_at1125, uL_law_at1126, uL_law_at1127, uL_law_at1129, uL_law_at1130, uL_law_at1131, uL_law_at1132, uL_law_at1135, uL_law_at1136, uL_law_at1137, uL_law_at1139, uL_law_at1140, uL_law_at1141, uL_law_at1142, uL_law_at1145, zKK, zA, zlg, z0, i0, d1, z1, i1, m1, eq_self]
theorem L_form (Z : wZ D B s o α) (W : wW D B s o n α f N M k S h) (hi : i + 5 ≤ n) (hn : n < 2147483648) : wG D B s o n α f N M k i 1150 h x5 x6 := by
  obtain ⟨h1, d1, Q⟩ := D_form W.1 (f (i + 1)) (f (i + 2))
  obtain ⟨h2, m1, W2, z1, i1⟩ := w_step Z W W.2.1 hn Q (fun σ hR => M_form Z.1 σ h1 hR W.2.1 (f (i + 1)) (f (i + 2)))
  have z0 := W.2.2.2.1.a hn
  have i0 := W.1.is
  refine ⟨_, h2, x5, x6, ?_, W2⟩
  simp (disch := omega) only [uL_law_at1150, uL_law_at1151, uL_law_at1152, uL_law_at1154, uL_law_at1155, uL_law_at1156, uL_law_at1157, uL_law_at1158, uL_law_at1160, uL_law_at1161, uL_law_at1162, uL_law_at1163, uL_law_at1166, uL_law_at1167, uL_law_at1168, uL_law_at1170, uL_law_at1171, uL_law_at1172, uL_law_at1173, uL_law_at1174, uL_law_at1176, uL_law_at1177, uL_law_at1178, uL_law_at1179, uL_law_at1182, zKK, zA, zlg, z0, i0, d1, z1, i1, m1, eq_self]
theorem L_rank (Z : wZ D B s o α) (W : wW D B s o n α f N M k S h) (hi : i + 5 ≤ n) (hn : n < 2147483648) : wG D B s o n α f N M k i 1187 h x5 x6 := by
  obtain ⟨h1, d1, Q⟩ := D_rank W.1 (f (i + 1)) (f (i + 2))
  obtain ⟨h2, m1, W2, z1, i1⟩ := w_step Z W W.2.1 hn Q (fun σ hR => M_rank Z.1 σ h1 hR W.2.1 (f (i + 1)) (f (i + 2)))
  have z0 := W.2.2.2.1.a hn
  have i0 := W.1.is
  refine ⟨_, h2, x5, x6, ?_, W2⟩
  simp (disch := omega) only [uL_law_at1187, uL_law_at1188, uL_law_at1189, uL_law_at1191, uL_law_at1192, uL_law_at1193, uL_law_at1194, uL_law_at1195, uL_law_at1197, uL_law_at1198, uL_law_at1199, uL_law_at1200, uL_law_at1203, uL_law_at1204, uL_law_at1205, uL_law_at1207, uL_law_at1208, uL_law_at1209, uL_law_at1210, uL_law_at1211, uL_law_at1213, uL_law_at1214, uL_law_at1215, uL_law_at1216, uL_law_at1219, zKK, zA, zlg, z0, i0, d1, z1, i1, m1, eq_self]
theorem L_ranks (Z : wZ D B s o α) (W : wW D B s o n α f N M k S h) (hi : i + 5 ≤ n) (hn : n < 2147483648) : wG D B s o n α f N M k i 1224 h x5 x6 := by
  obtain ⟨h1, d1, Q⟩ := D_ranks W.1 (f (i + 1)) (f (i + 2))
  obtain ⟨h2, m1, W2, z1, i1⟩ := w_step Z W (i_ranks W.2.1 (f (i + 1)) (f (i + 2))) hn Q (fun σ hR => M_ranks Z.1 σ h1 hR W.2.1 (f (i + 1)) (f (i + 2)))
  have z0 := W.2.2.2.1.a hn
  have i0 := W.1.is
  refine ⟨_, h2, x5, x6, ?_, W2⟩
  simp (disch := omega) only [uL_law_at1224, uL_law_at1225, uL_law_at1226, uL_law_at1228, uL_law_at1229, uL_law_at1230, uL_law_at1231, uL_law_at1232, uL_law_at1234, uL_law_at1235, uL_law_at1236, uL_law_at1237, uL_law_at1240, uL_law_at1241, uL_law_at1242, uL_law_at1244, uL_law_at1245, uL_law_at1246, uL_law_at1247, uL_law_at1248, uL_law_at1250, uL_law_at1251, uL_law_at1252, uL_law_at1253, uL_law_at1256, zKK, zA, zlg, z0, i0, d1, z1, i1, m1, eq_self]
theorem L_marked (Z : wZ D B s o α) (W : wW D B s o n α f N M k S h) (hi : i + 5 ≤ n) (hn : n < 2147483648) : wG D B s o n α f N M k i 1261 h x5 x6 := by
  obtain ⟨h1, d1, Q⟩ := D_marked W.1 (f (i + 1)) (f (i + 2))
  obtain ⟨h2, m1, W2, z1, i1⟩ := w_step Z W W.2.1 hn Q (fun σ hR => M_marked Z.1 σ h1 hR W.2.1 (f (i + 1)) (f (i + 2)))
  have z0 := W.2.2.2.1.a hn
  have i0 := W.1.is
  refine ⟨_, h2, x5, x6, ?_, W2⟩
  simp (disch := omega) only [uL_law_at1261, uL_law_at1262, uL_law_at1263, uL_law_at1265, uL_law_at1266, uL_law_at1267, uL_law_at1268, uL_law_at1269, uL_law_at1271, uL_law_at1272, uL_law_at1273, uL_law_at1274, uL_law_at1277, uL_law_at1278, uL_law_at1279, uL_law_at1281, uL_law_at1282, uL_law_at1283, uL_law_at1284, uL_law_at1285, uL_law_at1287, uL_law_at1288, uL_law_at1289, uL_law_at1290, uL_law_at1293, uL_law_at1294, zKK, zA, zlg, z0, i0, d1, z1, i1, m1, eq_self]
theorem L_may (Z : wZ D B s o α) (W : wW D B s o n α f N M k S h) (hi : i + 5 ≤ n) (hn : n < 2147483648) : wG D B s o n α f N M k i 1299 h x5 x6 := by
  obtain ⟨h1, d1, Q⟩ := D_may W.1 (f (i + 1)) (f (i + 2))
  obtain ⟨h2, m1, W2, z1, i1⟩ := w_step Z W W.2.1 hn Q (fun σ hR => M_may Z.1 σ h1 hR W.2.1 (f (i + 1)) (f (i + 2)))
  have z0 := W.2.2.2.1.a hn
  have i0 := W.1.is
  refine ⟨_, h2, x5, x6, ?_, W2⟩
  simp (disch := omega) only [uL_law_at1299, uL_law_at1300, uL_law_at1301, uL_law_at1303, uL_law_at1304, uL_law_at1305, uL_law_at1306, uL_law_at1307, uL_law_at1309, uL_law_at1310, uL_law_at1311, uL_law_at1312, uL_law_at1315, uL_law_at1316, uL_law_at1317, uL_law_at1319, uL_law_at1320, uL_law_at1321, uL_law_at1322, uL_law_at1323, uL_law_at1325, uL_law_at1326, uL_law_at1327, uL_law_at1328, uL_law_at1331, zKK, zA, zlg, z0, i0, d1, z1, i1, m1, eq_self]
theorem L_first (Z : wZ D B s o α) (W : wW D B s o n α f N M k S h) (hi : i + 5 ≤ n) (hn : n < 2147483648) : wG D B s o n α f N M k i 1336 h x5 x6 := by
  obtain ⟨h1, d1, Q⟩ := D_first W.1 (f (i + 1)) (f (i + 2)) (f (i + 3)) (f (i + 4))
  obtain ⟨h2, m1, W2, z1, i1⟩ := w_step Z W (i_first W.2.1 (f (i + 1)) (f (i + 2)) (f (i + 3)) (f (i + 4))) hn Q (fun σ hR => M_first Z.1 σ h1 hR W.2.1 (f (i + 1)) (f (i + 2)) (f (i + 3)) (f (i + 4)))
  have z0 := W.2.2.2.1.a hn
  have i0 := W.1.is
  refine ⟨_, h2, x5, x6, ?_, W2⟩
  simp (disch := omega) only [uL_law_at1336, uL_law_at1337, uL_law_at1338, uL_law_at1340, uL_law_at1341, uL_law_at1342, uL_law_at1343, uL_law_at1344, uL_law_at1346, uL_law_at1347, uL_law_at1348, uL_law_at1349, uL_law_at1350, uL_law_at1352, uL_law_at1353, uL_law_at1354, uL_law_at1355, uL_law_at1356, uL_law_at1358, uL_law_at1359, uL_law_at1360, uL_law_at1361, uL_law_at1364, uL_law_at1365, uL_law_at1366, uL_law_at1368, uL_law_at1369, uL_law_at1370, uL_law_at1371, uL_law_at1372, uL_law_at1374, uL_law_at1375, uL_law_at1376, uL_law_at1377, uL_law_at1378, uL_law_at1380, uL_law_at1381, uL_law_at1382, uL_law_at1383, uL_law_at1384, uL_law_at1386, uL_law_at1387, uL_law_at1388, uL_law_at1389, uL_law_at1392, zKK, zA, zlg, z0, i0, d1, z1, i1, m1, eq_self]
theorem L_bits (Z : wZ D B s o α) (W : wW D B s o n α f N M k S h) (hi : i + 5 ≤ n) (hn : n < 2147483648) : wG D B s o n α f N M k i 1397 h x5 x6 := by
  obtain ⟨h1, d1, Q⟩ := D_bits W.1 (f (i + 1)) (f (i + 2))
  obtain ⟨h2, m1, W2, z1, i1⟩ := w_step Z W W.2.1 hn Q (fun σ hR => M_bits Z.1 σ h1 hR W.2.1 (f (i + 1)) (f (i + 2)))
  have z0 := W.2.2.2.1.a hn
  have i0 := W.1.is
  refine ⟨_, h2, x5, x6, ?_, W2⟩
  simp (disch := omega) only [uL_law_at1397, uL_law_at1398, uL_law_at1399, uL_law_at1401, uL_law_at1402, uL_law_at1403, uL_law_at1404, uL_law_at1405, uL_law_at1407, uL_law_at1408, uL_law_at1409, uL_law_at1410, uL_law_at1413, uL_law_at1414, uL_law_at1415, uL_law_at1417, uL_law_at1418, uL_law_at1419, uL_law_at1420, uL_law_at1421, uL_law_at1423, uL_law_at1424, uL_law_at1425, uL_law_at1426, uL_law_at1429, uL_law_at1430, zKK, zA, zlg, z0, i0, d1, z1, i1, m1, eq_self]
theorem L_slice (Z : wZ D B s o α) (W : wW D B s o n α f N M k S h) (hi : i + 5 ≤ n) (hn : n < 2147483648) : wG D B s o n α f N M k i 1435 h x5 x6 := by
  obtain ⟨h1, d1, Q⟩ := D_slice W.1 (f (i + 1)) (f (i + 2)) (f (i + 3))
  obtain ⟨h2, m1, W2, z1, i1⟩ := w_step Z W W.2.1 hn Q (fun σ hR => M_slice Z.1 σ h1 hR W.2.1 (f (i + 1)) (f (i + 2)) (f (i + 3)))
  have z0 := W.2.2.2.1.a hn
  have i0 := W.1.is
  refine ⟨_, h2, x5, x6, ?_, W2⟩
  simp (disch := omega) only [uL_law_at1435, uL_law_at1436, uL_law_at1437, uL_law_at1439, uL_law_at1440, uL_law_at1441, uL_law_at1442, uL_law_at1443, uL_law_at1445, uL_law_at1446, uL_law_at1447, uL_law_at1448, uL_law_at1449, uL_law_at1451, uL_law_at1452, uL_law_at1453, uL_law_at1454, uL_law_at1457, uL_law_at1458, uL_law_at1459, uL_law_at1461, uL_law_at1462, uL_law_at1463, uL_law_at1464, uL_law_at1465, uL_law_at1467, uL_law_at1468, uL_law_at1469, uL_law_at1470, uL_law_at1471, uL_law_at1473, uL_law_at1474, uL_law_at1475, uL_law_at1476, uL_law_at1479, uL_law_at1480, zKK, zA, zlg, z0, i0, d1, z1, i1, m1, eq_self]
theorem L_runsOf (Z : wZ D B s o α) (W : wW D B s o n α f N M k S h) (hi : i + 5 ≤ n) (hn : n < 2147483648) : wG D B s o n α f N M k i 1485 h x5 x6 := by
  obtain ⟨h1, d1, Q⟩ := D_runsOf W.1 (f (i + 1))
  obtain ⟨h2, m1, W2, z1, i1⟩ := w_step Z W (i_runsOf W.2.1 (f (i + 1))) hn Q (fun σ hR => M_runsOf Z.1 σ h1 hR W.2.1 (f (i + 1)))
  have z0 := W.2.2.2.1.a hn
  have i0 := W.1.is
  refine ⟨_, h2, x5, x6, ?_, W2⟩
  simp (disch := omega) only [uL_law_at1485, uL_law_at1486, uL_law_at1487, uL_law_at1489, uL_law_at1490, uL_law_at1491, uL_law_at1492, uL_law_at1495, uL_law_at1496, uL_law_at1497, uL_law_at1499, uL_law_at1500, uL_law_at1501, uL_law_at1502, uL_law_at1505, zKK, zA, zlg, z0, i0, d1, z1, i1, m1, eq_self]
theorem L_replays (Z : wZ D B s o α) (W : wW D B s o n α f N M k S h) (hi : i + 5 ≤ n) (hn : n < 2147483648) : wG D B s o n α f N M k i 1510 h x5 x6 := by
  obtain ⟨h1, d1, Q⟩ := D_replays W.1 W.2.1 (f (i + 1))
  obtain ⟨h2, m1, W2, z1, i1⟩ := w_step Z W (i_replays W.2.1 (f (i + 1))) hn Q (fun σ hR => M_replays Z.1 σ h1 hR W.2.1 (f (i + 1)))
  have z0 := W.2.2.2.1.a hn
  have i0 := W.1.is
  refine ⟨_, h2, x5, x6, ?_, W2⟩
  simp (disch := omega) only [uL_law_at1510, uL_law_at1511, uL_law_at1512, uL_law_at1514, uL_law_at1515, uL_law_at1516, uL_law_at1517, uL_law_at1520, uL_law_at1521, uL_law_at1522, uL_law_at1524, uL_law_at1525, uL_law_at1526, uL_law_at1527, uL_law_at1530, zKK, zA, zlg, z0, i0, d1, z1, i1, m1, eq_self]
theorem L_gap (Z : wZ D B s o α) (W : wW D B s o n α f N M k S h) (hi : i + 5 ≤ n) (hn : n < 2147483648) : wG D B s o n α f N M k i 1535 h x5 x6 := by
  obtain ⟨h1, d1, Q⟩ := D_gap W.1 (f (i + 1))
  obtain ⟨h2, m1, W2, z1, i1⟩ := w_step Z W (i_gap W.2.1 (f (i + 1))) hn Q (fun σ hR => M_gap Z.1 σ h1 hR W.2.1 (f (i + 1)))
  have z0 := W.2.2.2.1.a hn
  have i0 := W.1.is
  refine ⟨_, h2, x5, x6, ?_, W2⟩
  simp (disch := omega) only [uL_law_at1535, uL_law_at1536, uL_law_at1537, uL_law_at1539, uL_law_at1540, uL_law_at1541, uL_law_at1542, uL_law_at1545, uL_law_at1546, uL_law_at1547, uL_law_at1549, uL_law_at1550, uL_law_at1551, uL_law_at1552, uL_law_at1555, zKK, zA, zlg, z0, i0, d1, z1, i1, m1, eq_self]
theorem L_table (Z : wZ D B s o α) (W : wW D B s o n α f N M k S h) (hi : i + 5 ≤ n) (hn : n < 2147483648) : wG D B s o n α f N M k i 1560 h x5 x6 := by
  obtain ⟨h1, d1, Q⟩ := D_table W.1 (f (i + 1)) (f (i + 2))
  obtain ⟨h2, m1, W2, z1, i1⟩ := w_step Z W W.2.1 hn Q (fun σ hR => M_table Z.1 σ h1 hR (f (i + 1)) (f (i + 2)))
  have z0 := W.2.2.2.1.a hn
  have i0 := W.1.is
  refine ⟨_, h2, x5, x6, ?_, W2⟩
  simp (disch := omega) only [uL_law_at1560, uL_law_at1561, uL_law_at1562, uL_law_at1564, uL_law_at1565, uL_law_at1566, uL_law_at1567, uL_law_at1568, uL_law_at1570, uL_law_at1571, uL_law_at1572, uL_law_at1573, uL_law_at1576, uL_law_at1577, uL_law_at1578, uL_law_at1580, uL_law_at1581, uL_law_at1582, uL_law_at1583, uL_law_at1584, uL_law_at1586, uL_law_at1587, uL_law_at1588, uL_law_at1589, uL_law_at1592, zKK, zA, zlg, z0, i0, d1, z1, i1, m1, eq_self]
theorem L_all (Z : wZ D B s o α) (W : wW D B s o n α f N M k S h) (hi : i + 5 ≤ n) (hn : n < 2147483648) : wG D B s o n α f N M k i 1597 h x5 x6 := by
  obtain ⟨h1, d1, Q⟩ := D_all W.1 (f (i + 1))
  obtain ⟨h2, m1, W2, z1, i1⟩ := w_step Z W W.2.1 hn Q (fun σ hR => M_all Z.1 σ h1 hR W.2.1 (f (i + 1)))
  have z0 := W.2.2.2.1.a hn
  have i0 := W.1.is
  refine ⟨_, h2, x5, x6, ?_, W2⟩
  simp (disch := omega) only [uL_law_at1597, uL_law_at1598, uL_law_at1599, uL_law_at1601, uL_law_at1602, uL_law_at1603, uL_law_at1604, uL_law_at1607, uL_law_at1608, uL_law_at1609, uL_law_at1611, uL_law_at1612, uL_law_at1613, uL_law_at1614, uL_law_at1617, uL_law_at1618, zKK, zA, zlg, z0, i0, d1, z1, i1, m1, eq_self]
theorem L_lacks (Z : wZ D B s o α) (W : wW D B s o n α f N M k S h) (hi : i + 5 ≤ n) (hn : n < 2147483648) : wG D B s o n α f N M k i 1623 h x5 x6 := by
  obtain ⟨h1, d1, Q⟩ := D_lacks W.1 (f (i + 1)) (f (i + 2))
  obtain ⟨h2, m1, W2, z1, i1⟩ := w_step Z W W.2.1 hn Q (fun σ hR => M_lacks Z.1 σ h1 hR W.2.1 (f (i + 1)) (f (i + 2)))
  have z0 := W.2.2.2.1.a hn
  have i0 := W.1.is
  refine ⟨_, h2, x5, x6, ?_, W2⟩
  simp (disch := omega) only [uL_law_at1623, uL_law_at1624, uL_law_at1625, uL_law_at1627, uL_law_at1628, uL_law_at1629, uL_law_at1630, uL_law_at1631, uL_law_at1633, uL_law_at1634, uL_law_at1635, uL_law_at1636, uL_law_at1639, uL_law_at1640, uL_law_at1641, uL_law_at1643, uL_law_at1644, uL_law_at1645, uL_law_at1646, uL_law_at1647, uL_law_at1649, uL_law_at1650, uL_law_at1651, uL_law_at1652, uL_law_at1655, zKK, zA, zlg, z0, i0, d1, z1, i1, m1, eq_self]
theorem L_common (Z : wZ D B s o α) (W : wW D B s o n α f N M k S h) (hi : i + 5 ≤ n) (hn : n < 2147483648) : wG D B s o n α f N M k i 1660 h x5 x6 := by
  obtain ⟨h1, d1, Q⟩ := D_common W.1 (f (i + 1)) (f (i + 2))
  obtain ⟨h2, m1, W2, z1, i1⟩ := w_step Z W (i_common W.2.1 (f (i + 1)) (f (i + 2))) hn Q (fun σ hR => M_common Z.1 σ h1 hR W.2.1 (f (i + 1)) (f (i + 2)))
  have z0 := W.2.2.2.1.a hn
  have i0 := W.1.is
  refine ⟨_, h2, x5, x6, ?_, W2⟩
  simp (disch := omega) only [uL_law_at1660, uL_law_at1661, uL_law_at1662, uL_law_at1664, uL_law_at1665, uL_law_at1666, uL_law_at1667, uL_law_at1668, uL_law_at1670, uL_law_at1671, uL_law_at1672, uL_law_at1673, uL_law_at1676, uL_law_at1677, uL_law_at1678, uL_law_at1680, uL_law_at1681, uL_law_at1682, uL_law_at1683, uL_law_at1684, uL_law_at1686, uL_law_at1687, uL_law_at1688, uL_law_at1689, uL_law_at1692, uL_law_at1693, zKK, zA, zlg, z0, i0, d1, z1, i1, m1, eq_self]
theorem L_alone (Z : wZ D B s o α) (W : wW D B s o n α f N M k S h) (hi : i + 5 ≤ n) (hn : n < 2147483648) : wG D B s o n α f N M k i 1698 h x5 x6 := by
  obtain ⟨h1, d1, Q⟩ := D_alone W.1 (f (i + 1)) (f (i + 2))
  obtain ⟨h2, m1, W2, z1, i1⟩ := w_step Z W W.2.1 hn Q (fun σ hR => M_alone Z.1 σ h1 hR W.2.1 (f (i + 1)) (f (i + 2)))
  have z0 := W.2.2.2.1.a hn
  have i0 := W.1.is
  refine ⟨_, h2, x5, x6, ?_, W2⟩
  simp (disch := omega) only [uL_law_at1698, uL_law_at1699, uL_law_at1700, uL_law_at1702, uL_law_at1703, uL_law_at1704, uL_law_at1705, uL_law_at1706, uL_law_at1708, uL_law_at1709, uL_law_at1710, uL_law_at1711, uL_law_at1714, uL_law_at1715, uL_law_at1716, uL_law_at1718, uL_law_at1719, uL_law_at1720, uL_law_at1721, uL_law_at1722, uL_law_at1724, uL_law_at1725, uL_law_at1726, uL_law_at1727, uL_law_at1730, uL_law_at1731, zKK, zA, zlg, z0, i0, d1, z1, i1, m1, eq_self]
theorem L_alike (Z : wZ D B s o α) (W : wW D B s o n α f N M k S h) (hi : i + 5 ≤ n) (hn : n < 2147483648) : wG D B s o n α f N M k i 1736 h x5 x6 := by
  obtain ⟨h1, d1, Q⟩ := D_alike W.1 (f (i + 1)) (f (i + 2))
  obtain ⟨h2, m1, W2, z1, i1⟩ := w_step Z W W.2.1 hn Q (fun σ hR => M_alike Z.1 σ h1 hR W.2.1 (f (i + 1)) (f (i + 2)))
  have z0 := W.2.2.2.1.a hn
  have i0 := W.1.is
  refine ⟨_, h2, x5, x6, ?_, W2⟩
  simp (disch := omega) only [uL_law_at1736, uL_law_at1737, uL_law_at1738, uL_law_at1740, uL_law_at1741, uL_law_at1742, uL_law_at1743, uL_law_at1744, uL_law_at1746, uL_law_at1747, uL_law_at1748, uL_law_at1749, uL_law_at1752, uL_law_at1753, uL_law_at1754, uL_law_at1756, uL_law_at1757, uL_law_at1758, uL_law_at1759, uL_law_at1760, uL_law_at1762, uL_law_at1763, uL_law_at1764, uL_law_at1765, uL_law_at1768, zKK, zA, zlg, z0, i0, d1, z1, i1, m1, eq_self]
theorem L_nearest (Z : wZ D B s o α) (W : wW D B s o n α f N M k S h) (hi : i + 5 ≤ n) (hn : n < 2147483648) : wG D B s o n α f N M k i 1773 h x5 x6 := by
  obtain ⟨h1, d1, Q⟩ := D_nearest W.1 (f (i + 1))
  obtain ⟨h2, m1, W2, z1, i1⟩ := w_step Z W (i_nearest W.2.1 (f (i + 1))) hn Q (fun σ hR => M_nearest Z.1 σ h1 hR W.2.1 (f (i + 1)))
  have z0 := W.2.2.2.1.a hn
  have i0 := W.1.is
  refine ⟨_, h2, x5, x6, ?_, W2⟩
  simp (disch := omega) only [uL_law_at1773, uL_law_at1774, uL_law_at1775, uL_law_at1777, uL_law_at1778, uL_law_at1779, uL_law_at1780, uL_law_at1783, uL_law_at1784, uL_law_at1785, uL_law_at1787, uL_law_at1788, uL_law_at1789, uL_law_at1790, uL_law_at1793, zKK, zA, zlg, z0, i0, d1, z1, i1, m1, eq_self]
theorem L_meet (Z : wZ D B s o α) (W : wW D B s o n α f N M k S h) (hi : i + 5 ≤ n) (hn : n < 2147483648) : wG D B s o n α f N M k i 1798 h x5 x6 := by
  obtain ⟨h1, d1, Q⟩ := D_meet W.1 W.2.1 (f (i + 1))
  obtain ⟨h2, m1, W2, z1, i1⟩ := w_step Z W (i_meet W.2.1 (f (i + 1))) hn Q (fun σ hR => M_meet Z.1 σ h1 hR W.2.1 (f (i + 1)))
  have z0 := W.2.2.2.1.a hn
  have i0 := W.1.is
  refine ⟨_, h2, x5, x6, ?_, W2⟩
  simp (disch := omega) only [uL_law_at1798, uL_law_at1799, uL_law_at1800, uL_law_at1802, uL_law_at1803, uL_law_at1804, uL_law_at1805, uL_law_at1808, uL_law_at1809, uL_law_at1810, uL_law_at1812, uL_law_at1813, uL_law_at1814, uL_law_at1815, uL_law_at1818, uL_law_at1819, zKK, zA, zlg, z0, i0, d1, z1, i1, m1, eq_self]
theorem L_unlike (Z : wZ D B s o α) (W : wW D B s o n α f N M k S h) (hi : i + 5 ≤ n) (hn : n < 2147483648) : wG D B s o n α f N M k i 1824 h x5 x6 := by
  obtain ⟨h1, d1, Q⟩ := D_unlike W.1 (f (i + 1)) (f (i + 2))
  obtain ⟨h2, m1, W2, z1, i1⟩ := w_step Z W (i_unlike W.2.1 (f (i + 1)) (f (i + 2))) hn Q (fun σ hR => M_unlike Z.1 σ h1 hR W.2.1 (f (i + 1)) (f (i + 2)))
  have z0 := W.2.2.2.1.a hn
  have i0 := W.1.is
  refine ⟨_, h2, x5, x6, ?_, W2⟩
  simp (disch := omega) only [uL_law_at1824, uL_law_at1825, uL_law_at1826, uL_law_at1828, uL_law_at1829, uL_law_at1830, uL_law_at1831, uL_law_at1832, uL_law_at1834, uL_law_at1835, uL_law_at1836, uL_law_at1837, uL_law_at1840, uL_law_at1841, uL_law_at1842, uL_law_at1844, uL_law_at1845, uL_law_at1846, uL_law_at1847, uL_law_at1848, uL_law_at1850, uL_law_at1851, uL_law_at1852, uL_law_at1853, uL_law_at1856, zKK, zA, zlg, z0, i0, d1, z1, i1, m1, eq_self]
theorem L_apart (Z : wZ D B s o α) (W : wW D B s o n α f N M k S h) (hi : i + 5 ≤ n) (hn : n < 2147483648) : wG D B s o n α f N M k i 1861 h x5 x6 := by
  obtain ⟨h1, d1, Q⟩ := D_apart W.1 (f (i + 1)) (f (i + 2))
  obtain ⟨h2, m1, W2, z1, i1⟩ := w_step Z W (i_apart W.2.1 (f (i + 1)) (f (i + 2))) hn Q (fun σ hR => M_apart Z.1 σ h1 hR W.2.1 (f (i + 1)) (f (i + 2)))
  have z0 := W.2.2.2.1.a hn
  have i0 := W.1.is
  refine ⟨_, h2, x5, x6, ?_, W2⟩
  simp (disch := omega) only [uL_law_at1861, uL_law_at1862, uL_law_at1863, uL_law_at1865, uL_law_at1866, uL_law_at1867, uL_law_at1868, uL_law_at1869, uL_law_at1871, uL_law_at1872, uL_law_at1873, uL_law_at1874, uL_law_at1877, uL_law_at1878, uL_law_at1879, uL_law_at1881, uL_law_at1882, uL_law_at1883, uL_law_at1884, uL_law_at1885, uL_law_at1887, uL_law_at1888, uL_law_at1889, uL_law_at1890, uL_law_at1893, zKK, zA, zlg, z0, i0, d1, z1, i1, m1, eq_self]
theorem L_order (Z : wZ D B s o α) (W : wW D B s o n α f N M k S h) (hi : i + 5 ≤ n) (hn : n < 2147483648) : wG D B s o n α f N M k i 1898 h x5 x6 := by
  obtain ⟨h1, d1, Q⟩ := D_order W.1 
  obtain ⟨h2, m1, W2, z1, i1⟩ := w_step Z W (i_order W.2.1 ) hn Q (fun σ hR => M_order Z.1 σ h1 hR W.2.1 )
  have z0 := W.2.2.2.1.a hn
  have i0 := W.1.is
  refine ⟨_, h2, x5, x6, ?_, W2⟩
  simp (disch := omega) only [uL_law_at1898, uL_law_at1899, uL_law_at1902, uL_law_at1903, uL_law_at1906, zKK, zA, zlg, z0, i0, d1, z1, i1, m1, eq_self]
theorem L_within (Z : wZ D B s o α) (W : wW D B s o n α f N M k S h) (hi : i + 5 ≤ n) (hn : n < 2147483648) : wG D B s o n α f N M k i 1911 h x5 x6 := by
  obtain ⟨h1, d1, Q⟩ := D_within W.1 (f (i + 1)) (f (i + 2))
  obtain ⟨h2, m1, W2, z1, i1⟩ := w_step Z W W.2.1 hn Q (fun σ hR => M_within Z.1 σ h1 hR W.2.1 (f (i + 1)) (f (i + 2)))
  have z0 := W.2.2.2.1.a hn
  have i0 := W.1.is
  refine ⟨_, h2, x5, x6, ?_, W2⟩
  simp (disch := omega) only [uL_law_at1911, uL_law_at1912, uL_law_at1913, uL_law_at1915, uL_law_at1916, uL_law_at1917, uL_law_at1918, uL_law_at1919, uL_law_at1921, uL_law_at1922, uL_law_at1923, uL_law_at1924, uL_law_at1927, uL_law_at1928, uL_law_at1929, uL_law_at1931, uL_law_at1932, uL_law_at1933, uL_law_at1934, uL_law_at1935, uL_law_at1937, uL_law_at1938, uL_law_at1939, uL_law_at1940, uL_law_at1943, zKK, zA, zlg, z0, i0, d1, z1, i1, m1, eq_self]
theorem L_cover (Z : wZ D B s o α) (W : wW D B s o n α f N M k S h) (hi : i + 5 ≤ n) (hn : n < 2147483648) : wG D B s o n α f N M k i 1948 h x5 x6 := by
  obtain ⟨h1, d1, Q⟩ := D_cover W.1 W.2.1 (f (i + 1))
  obtain ⟨h2, m1, W2, z1, i1⟩ := w_step Z W (i_cover W.2.1 (f (i + 1))) hn Q (fun σ hR => M_cover Z.1 σ h1 hR W.2.1 (f (i + 1)))
  have z0 := W.2.2.2.1.a hn
  have i0 := W.1.is
  refine ⟨_, h2, x5, x6, ?_, W2⟩
  simp (disch := omega) only [uL_law_at1948, uL_law_at1949, uL_law_at1950, uL_law_at1952, uL_law_at1953, uL_law_at1954, uL_law_at1955, uL_law_at1958, uL_law_at1959, uL_law_at1960, uL_law_at1962, uL_law_at1963, uL_law_at1964, uL_law_at1965, uL_law_at1968, zKK, zA, zlg, z0, i0, d1, z1, i1, m1, eq_self]
theorem L_errs (Z : wZ D B s o α) (W : wW D B s o n α f N M k S h) (hi : i + 5 ≤ n) (hn : n < 2147483648) : wG D B s o n α f N M k i 1973 h x5 x6 := by
  obtain ⟨h1, d1, Q⟩ := D_errs W.1 (f (i + 1)) (f (i + 2)) (f (i + 3)) (f (i + 4))
  obtain ⟨h2, m1, W2, z1, i1⟩ := w_step Z W (i_errs W.2.1 (f (i + 1)) (f (i + 2)) (f (i + 3)) (f (i + 4))) hn Q (fun σ hR => M_errs Z.1 σ h1 hR W.2.1 (f (i + 1)) (f (i + 2)) (f (i + 3)) (f (i + 4)))
  have z0 := W.2.2.2.1.a hn
  have i0 := W.1.is
  refine ⟨_, h2, x5, x6, ?_, W2⟩
  simp (disch := omega) only [uL_law_at1973, uL_law_at1974, uL_law_at1975, uL_law_at1977, uL_law_at1978, uL_law_at1979, uL_law_at1980, uL_law_at1981, uL_law_at1983, uL_law_at1984, uL_law_at1985, uL_law_at1986, uL_law_at1987, uL_law_at1989, uL_law_at1990, uL_law_at1991, uL_law_at1992, uL_law_at1993, uL_law_at1995, uL_law_at1996, uL_law_at1997, uL_law_at1998, uL_law_at2001, uL_law_at2002, uL_law_at2003, uL_law_at2005, uL_law_at2006, uL_law_at2007, uL_law_at2008, uL_law_at2009, uL_law_at2011, uL_law_at2012, uL_law_at2013, uL_law_at2014, uL_law_at2015, uL_law_at2017, uL_law_at2018, uL_law_at2019, uL_law_at2020, uL_law_at2021, uL_law_at2023, uL_law_at2024, uL_law_at2025, uL_law_at2026, uL_law_at2029, zKK, zA, zlg, z0, i0, d1, z1, i1, m1, eq_self]
theorem L_least (Z : wZ D B s o α) (W : wW D B s o n α f N M k S h) (hi : i + 5 ≤ n) (hn : n < 2147483648) : wG D B s o n α f N M k i 2034 h x5 x6 := by
  obtain ⟨h1, d1, Q⟩ := D_least W.1 (f (i + 1)) (f (i + 2)) (f (i + 3)) (f (i + 4))
  obtain ⟨h2, m1, W2, z1, i1⟩ := w_step Z W (i_least W.2.1 (f (i + 1)) (f (i + 2)) (f (i + 3)) (f (i + 4))) hn Q (fun σ hR => M_least Z.1 σ h1 hR W.2.1 (f (i + 1)) (f (i + 2)) (f (i + 3)) (f (i + 4)))
  have z0 := W.2.2.2.1.a hn
  have i0 := W.1.is
  refine ⟨_, h2, x5, x6, ?_, W2⟩
  simp (disch := omega) only [uL_law_at2034, uL_law_at2035, uL_law_at2036, uL_law_at2038, uL_law_at2039, uL_law_at2040, uL_law_at2041, uL_law_at2042, uL_law_at2044, uL_law_at2045, uL_law_at2046, uL_law_at2047, uL_law_at2048, uL_law_at2050, uL_law_at2051, uL_law_at2052, uL_law_at2053, uL_law_at2054, uL_law_at2056, uL_law_at2057, uL_law_at2058, uL_law_at2059, uL_law_at2062, uL_law_at2063, uL_law_at2064, uL_law_at2066, uL_law_at2067, uL_law_at2068, uL_law_at2069, uL_law_at2070, uL_law_at2072, uL_law_at2073, uL_law_at2074, uL_law_at2075, uL_law_at2076, uL_law_at2078, uL_law_at2079, uL_law_at2080, uL_law_at2081, uL_law_at2082, uL_law_at2084, uL_law_at2085, uL_law_at2086, uL_law_at2087, uL_law_at2090, zKK, zA, zlg, z0, i0, d1, z1, i1, m1, eq_self]
theorem L_expects (Z : wZ D B s o α) (W : wW D B s o n α f N M k S h) (hi : i + 5 ≤ n) (hn : n < 2147483648) : wG D B s o n α f N M k i 2095 h x5 x6 := by
  obtain ⟨h1, d1, Q⟩ := D_expects W.1 (f (i + 1)) (f (i + 2))
  obtain ⟨h2, m1, W2, z1, i1⟩ := w_step Z W W.2.1 hn Q (fun σ hR => M_expects Z.1 σ h1 hR (f (i + 1)) (f (i + 2)))
  have z0 := W.2.2.2.1.a hn
  have i0 := W.1.is
  refine ⟨_, h2, x5, x6, ?_, W2⟩
  simp (disch := omega) only [uL_law_at2095, uL_law_at2096, uL_law_at2097, uL_law_at2099, uL_law_at2100, uL_law_at2101, uL_law_at2102, uL_law_at2103, uL_law_at2105, uL_law_at2106, uL_law_at2107, uL_law_at2108, uL_law_at2111, uL_law_at2112, uL_law_at2113, uL_law_at2115, uL_law_at2116, uL_law_at2117, uL_law_at2118, uL_law_at2119, uL_law_at2121, uL_law_at2122, uL_law_at2123, uL_law_at2124, uL_law_at2127, zKK, zA, zlg, z0, i0, d1, z1, i1, m1, eq_self]
theorem L_things (Z : wZ D B s o α) (W : wW D B s o n α f N M k S h) (hi : i + 5 ≤ n) (hn : n < 2147483648) : wG D B s o n α f N M k i 2132 h x5 x6 := by
  obtain ⟨h1, d1, Q⟩ := D_things W.1 (f (i + 1)) (f (i + 2))
  obtain ⟨h2, m1, W2, z1, i1⟩ := w_step Z W W.2.1 hn Q (fun σ hR => M_things Z.1 σ h1 hR (f (i + 1)) (f (i + 2)))
  have z0 := W.2.2.2.1.a hn
  have i0 := W.1.is
  refine ⟨_, h2, x5, x6, ?_, W2⟩
  simp (disch := omega) only [uL_law_at2132, uL_law_at2133, uL_law_at2134, uL_law_at2136, uL_law_at2137, uL_law_at2138, uL_law_at2139, uL_law_at2140, uL_law_at2142, uL_law_at2143, uL_law_at2144, uL_law_at2145, uL_law_at2148, uL_law_at2149, uL_law_at2150, uL_law_at2152, uL_law_at2153, uL_law_at2154, uL_law_at2155, uL_law_at2156, uL_law_at2158, uL_law_at2159, uL_law_at2160, uL_law_at2161, uL_law_at2164, zKK, zA, zlg, z0, i0, d1, z1, i1, m1, eq_self]
theorem L_would (Z : wZ D B s o α) (W : wW D B s o n α f N M k S h) (hi : i + 5 ≤ n) (hn : n < 2147483648) : wG D B s o n α f N M k i 2169 h x5 x6 := by
  obtain ⟨h1, d1, Q⟩ := D_would W.1 (f (i + 1)) (f (i + 2)) (f (i + 3)) (f (i + 4))
  obtain ⟨h2, m1, W2, z1, i1⟩ := w_step Z W (i_would W.2.1 (f (i + 1)) (f (i + 2)) (f (i + 3)) (f (i + 4))) hn Q (fun σ hR => M_would Z.1 σ h1 hR W.2.1 (f (i + 1)) (f (i + 2)) (f (i + 3)) (f (i + 4)))
  have z0 := W.2.2.2.1.a hn
  have i0 := W.1.is
  refine ⟨_, h2, x5, x6, ?_, W2⟩
  simp (disch := omega) only [uL_law_at2169, uL_law_at2170, uL_law_at2171, uL_law_at2173, uL_law_at2174, uL_law_at2175, uL_law_at2176, uL_law_at2177, uL_law_at2179, uL_law_at2180, uL_law_at2181, uL_law_at2182, uL_law_at2183, uL_law_at2185, uL_law_at2186, uL_law_at2187, uL_law_at2188, uL_law_at2189, uL_law_at2191, uL_law_at2192, uL_law_at2193, uL_law_at2194, uL_law_at2197, uL_law_at2198, uL_law_at2199, uL_law_at2201, uL_law_at2202, uL_law_at2203, uL_law_at2204, uL_law_at2205, uL_law_at2207, uL_law_at2208, uL_law_at2209, uL_law_at2210, uL_law_at2211, uL_law_at2213, uL_law_at2214, uL_law_at2215, uL_law_at2216, uL_law_at2217, uL_law_at2219, uL_law_at2220, uL_law_at2221, uL_law_at2222, uL_law_at2225, zKK, zA, zlg, z0, i0, d1, z1, i1, m1, eq_self]
theorem L_reaches (Z : wZ D B s o α) (W : wW D B s o n α f N M k S h) (hi : i + 5 ≤ n) (hn : n < 2147483648) : wG D B s o n α f N M k i 2230 h x5 x6 := by
  obtain ⟨h1, d1, Q⟩ := D_reaches W.1 (f (i + 1)) (f (i + 2)) (f (i + 3)) (f (i + 4))
  obtain ⟨h2, m1, W2, z1, i1⟩ := w_step Z W (i_reaches W.2.1 (f (i + 1)) (f (i + 2)) (f (i + 3)) (f (i + 4))) hn Q (fun σ hR => M_reaches Z.1 σ h1 hR W.2.1 (f (i + 1)) (f (i + 2)) (f (i + 3)) (f (i + 4)))
  have z0 := W.2.2.2.1.a hn
  have i0 := W.1.is
  refine ⟨_, h2, x5, x6, ?_, W2⟩
  simp (disch := omega) only [uL_law_at2230, uL_law_at2231, uL_law_at2232, uL_law_at2234, uL_law_at2235, uL_law_at2236, uL_law_at2237, uL_law_at2238, uL_law_at2240, uL_law_at2241, uL_law_at2242, uL_law_at2243, uL_law_at2244, uL_law_at2246, uL_law_at2247, uL_law_at2248, uL_law_at2249, uL_law_at2250, uL_law_at2252, uL_law_at2253, uL_law_at2254, uL_law_at2255, uL_law_at2258, uL_law_at2259, uL_law_at2260, uL_law_at2262, uL_law_at2263, uL_law_at2264, uL_law_at2265, uL_law_at2266, uL_law_at2268, uL_law_at2269, uL_law_at2270, uL_law_at2271, uL_law_at2272, uL_law_at2274, uL_law_at2275, uL_law_at2276, uL_law_at2277, uL_law_at2278, uL_law_at2280, uL_law_at2281, uL_law_at2282, uL_law_at2283, uL_law_at2286, zKK, zA, zlg, z0, i0, d1, z1, i1, m1, eq_self]
theorem L_over (Z : wZ D B s o α) (W : wW D B s o n α f N M k S h) (hi : i + 5 ≤ n) (hn : n < 2147483648) : wG D B s o n α f N M k i 2291 h x5 x6 := by
  obtain ⟨h1, d1, Q⟩ := D_over W.1 (f (i + 1))
  obtain ⟨h2, m1, W2, z1, i1⟩ := w_step Z W (i_over W.2.1 (f (i + 1))) hn Q (fun σ hR => M_over Z.1 σ h1 hR W.2.1 (f (i + 1)))
  have z0 := W.2.2.2.1.a hn
  have i0 := W.1.is
  refine ⟨_, h2, x5, x6, ?_, W2⟩
  simp (disch := omega) only [uL_law_at2291, uL_law_at2292, uL_law_at2293, uL_law_at2295, uL_law_at2296, uL_law_at2297, uL_law_at2298, uL_law_at2301, uL_law_at2302, uL_law_at2303, uL_law_at2305, uL_law_at2306, uL_law_at2307, uL_law_at2308, uL_law_at2311, uL_law_at2312, zKK, zA, zlg, z0, i0, d1, z1, i1, m1, eq_self]
theorem L_chain (Z : wZ D B s o α) (W : wW D B s o n α f N M k S h) (hi : i + 5 ≤ n) (hn : n < 2147483648) : wG D B s o n α f N M k i 2317 h x5 x6 := by
  obtain ⟨h1, d1, Q⟩ := D_chain W.1 W.2.1 (f (i + 1))
  obtain ⟨h2, m1, W2, z1, i1⟩ := w_step Z W (i_chain W.2.1 (f (i + 1))) hn Q (fun σ hR => M_chain Z.1 σ h1 hR W.2.1 (f (i + 1)))
  have z0 := W.2.2.2.1.a hn
  have i0 := W.1.is
  refine ⟨_, h2, x5, x6, ?_, W2⟩
  simp (disch := omega) only [uL_law_at2317, uL_law_at2318, uL_law_at2319, uL_law_at2321, uL_law_at2322, uL_law_at2323, uL_law_at2324, uL_law_at2327, uL_law_at2328, uL_law_at2329, uL_law_at2331, uL_law_at2332, uL_law_at2333, uL_law_at2334, uL_law_at2337, zKK, zA, zlg, z0, i0, d1, z1, i1, m1, eq_self]
theorem L_lessers (Z : wZ D B s o α) (W : wW D B s o n α f N M k S h) (hi : i + 5 ≤ n) (hn : n < 2147483648) : wG D B s o n α f N M k i 2342 h x5 x6 := by
  obtain ⟨h1, d1, Q⟩ := D_lessers W.1 (f (i + 1)) (f (i + 2)) (f (i + 3))
  obtain ⟨h2, m1, W2, z1, i1⟩ := w_step Z W (i_lessers W.2.1 (f (i + 1)) (f (i + 2)) (f (i + 3))) hn Q (fun σ hR => M_lessers Z.1 σ h1 hR W.2.1 (f (i + 1)) (f (i + 2)) (f (i + 3)))
  have z0 := W.2.2.2.1.a hn
  have i0 := W.1.is
  refine ⟨_, h2, x5, x6, ?_, W2⟩
  simp (disch := omega) only [uL_law_at2342, uL_law_at2343, uL_law_at2344, uL_law_at2346, uL_law_at2347, uL_law_at2348, uL_law_at2349, uL_law_at2350, uL_law_at2352, uL_law_at2353, uL_law_at2354, uL_law_at2355, uL_law_at2356, uL_law_at2358, uL_law_at2359, uL_law_at2360, uL_law_at2361, uL_law_at2364, uL_law_at2365, uL_law_at2366, uL_law_at2368, uL_law_at2369, uL_law_at2370, uL_law_at2371, uL_law_at2372, uL_law_at2374, uL_law_at2375, uL_law_at2376, uL_law_at2377, uL_law_at2378, uL_law_at2380, uL_law_at2381, uL_law_at2382, uL_law_at2383, uL_law_at2386, zKK, zA, zlg, z0, i0, d1, z1, i1, m1, eq_self]
theorem L_greedy (Z : wZ D B s o α) (W : wW D B s o n α f N M k S h) (hi : i + 5 ≤ n) (hn : n < 2147483648) : wG D B s o n α f N M k i 2391 h x5 x6 := by
  obtain ⟨h1, d1, Q⟩ := D_greedy W.1 W.2.1 (f (i + 1))
  obtain ⟨h2, m1, W2, z1, i1⟩ := w_step Z W (i_greedy W.2.1 (f (i + 1))) hn Q (fun σ hR => M_greedy Z.1 σ h1 hR W.2.1 (f (i + 1)))
  have z0 := W.2.2.2.1.a hn
  have i0 := W.1.is
  refine ⟨_, h2, x5, x6, ?_, W2⟩
  simp (disch := omega) only [uL_law_at2391, uL_law_at2392, uL_law_at2393, uL_law_at2395, uL_law_at2396, uL_law_at2397, uL_law_at2398, uL_law_at2401, uL_law_at2402, uL_law_at2403, uL_law_at2405, uL_law_at2406, uL_law_at2407, uL_law_at2408, uL_law_at2411, zKK, zA, zlg, z0, i0, d1, z1, i1, m1, eq_self]
theorem L_written (Z : wZ D B s o α) (W : wW D B s o n α f N M k S h) (hi : i + 5 ≤ n) (hn : n < 2147483648) : wG D B s o n α f N M k i 2416 h x5 x6 := by
  obtain ⟨h1, d1, Q⟩ := D_written W.1 (f (i + 1)) (f (i + 2))
  obtain ⟨h2, m1, W2, z1, i1⟩ := w_step Z W W.2.1 hn Q (fun σ hR => M_written Z.1 σ h1 hR W.2.1 (f (i + 1)) (f (i + 2)))
  have z0 := W.2.2.2.1.a hn
  have i0 := W.1.is
  refine ⟨_, h2, x5, x6, ?_, W2⟩
  simp (disch := omega) only [uL_law_at2416, uL_law_at2417, uL_law_at2418, uL_law_at2420, uL_law_at2421, uL_law_at2422, uL_law_at2423, uL_law_at2424, uL_law_at2426, uL_law_at2427, uL_law_at2428, uL_law_at2429, uL_law_at2432, uL_law_at2433, uL_law_at2434, uL_law_at2436, uL_law_at2437, uL_law_at2438, uL_law_at2439, uL_law_at2440, uL_law_at2442, uL_law_at2443, uL_law_at2444, uL_law_at2445, uL_law_at2448, zKK, zA, zlg, z0, i0, d1, z1, i1, m1, eq_self]
theorem L_reads (Z : wZ D B s o α) (W : wW D B s o n α f N M k S h) (hi : i + 5 ≤ n) (hn : n < 2147483648) : wG D B s o n α f N M k i 2453 h x5 x6 := by
  obtain ⟨h1, d1, Q⟩ := D_reads W.1 W.2.1 (f (i + 1))
  obtain ⟨h2, m1, W2, z1, i1⟩ := w_step Z W (i_reads W.2.1 (f (i + 1))) hn Q (fun σ hR => M_reads Z.1 σ h1 hR W.2.1 (f (i + 1)))
  have z0 := W.2.2.2.1.a hn
  have i0 := W.1.is
  refine ⟨_, h2, x5, x6, ?_, W2⟩
  simp (disch := omega) only [uL_law_at2453, uL_law_at2454, uL_law_at2455, uL_law_at2457, uL_law_at2458, uL_law_at2459, uL_law_at2460, uL_law_at2463, uL_law_at2464, uL_law_at2465, uL_law_at2467, uL_law_at2468, uL_law_at2469, uL_law_at2470, uL_law_at2473, zKK, zA, zlg, z0, i0, d1, z1, i1, m1, eq_self]
theorem L_count (Z : wZ D B s o α) (W : wW D B s o n α f N M k S h) (hi : i + 5 ≤ n) (hn : n < 2147483648) : wG D B s o n α f N M k i 2478 h x5 x6 := by
  obtain ⟨h1, d1, Q⟩ := D_count W.1 (f (i + 1))
  obtain ⟨h2, m1, W2, z1, i1⟩ := w_step Z W W.2.1 hn Q (fun σ hR => M_count Z.1 σ h1 hR W.2.1 (f (i + 1)))
  have z0 := W.2.2.2.1.a hn
  have i0 := W.1.is
  refine ⟨_, h2, x5, x6, ?_, W2⟩
  simp (disch := omega) only [uL_law_at2478, uL_law_at2479, uL_law_at2480, uL_law_at2482, uL_law_at2483, uL_law_at2484, uL_law_at2485, uL_law_at2488, uL_law_at2489, uL_law_at2490, uL_law_at2492, uL_law_at2493, uL_law_at2494, uL_law_at2495, uL_law_at2498, zKK, zA, zlg, z0, i0, d1, z1, i1, m1, eq_self]
end LC
