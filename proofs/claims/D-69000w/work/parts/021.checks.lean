set_option maxRecDepth 100000 in
theorem mth_chk : (mths.zip mthP).dropLast.all mthOk = true := by decide +kernel
set_option maxRecDepth 100000 in
theorem mth_row_0 : ((mths.dropLast.drop 0).take 50).map (fun mi => some (Cond.code mi.1 mi.2.1 mi.2.2.1 mi.2.2.2)) = ((mthP.drop 0).take 50).map (fun p => tbG p.1) := rfl
set_option maxRecDepth 100000 in
theorem mth_row_1 : ((mths.dropLast.drop 50).take 50).map (fun mi => some (Cond.code mi.1 mi.2.1 mi.2.2.1 mi.2.2.2)) = ((mthP.drop 50).take 50).map (fun p => tbG p.1) := rfl
set_option maxRecDepth 100000 in
theorem mth_row_2 : ((mths.dropLast.drop 100).take 50).map (fun mi => some (Cond.code mi.1 mi.2.1 mi.2.2.1 mi.2.2.2)) = ((mthP.drop 100).take 50).map (fun p => tbG p.1) := rfl
set_option maxRecDepth 100000 in
theorem mth_row_3 : ((mths.dropLast.drop 150).take 50).map (fun mi => some (Cond.code mi.1 mi.2.1 mi.2.2.1 mi.2.2.2)) = ((mthP.drop 150).take 50).map (fun p => tbG p.1) := rfl
set_option maxRecDepth 100000 in
theorem mth_row_4 : ((mths.dropLast.drop 200).take 50).map (fun mi => some (Cond.code mi.1 mi.2.1 mi.2.2.1 mi.2.2.2)) = ((mthP.drop 200).take 50).map (fun p => tbG p.1) := rfl
set_option maxRecDepth 100000 in
theorem mth_row_5 : ((mths.dropLast.drop 250).take 50).map (fun mi => some (Cond.code mi.1 mi.2.1 mi.2.2.1 mi.2.2.2)) = ((mthP.drop 250).take 50).map (fun p => tbG p.1) := rfl
set_option maxRecDepth 100000 in
theorem mth_row_6 : ((mths.dropLast.drop 300).take 50).map (fun mi => some (Cond.code mi.1 mi.2.1 mi.2.2.1 mi.2.2.2)) = ((mthP.drop 300).take 50).map (fun p => tbG p.1) := rfl
set_option maxRecDepth 100000 in
theorem mth_row_7 : ((mths.dropLast.drop 350).take 50).map (fun mi => some (Cond.code mi.1 mi.2.1 mi.2.2.1 mi.2.2.2)) = ((mthP.drop 350).take 50).map (fun p => tbG p.1) := rfl
set_option maxRecDepth 100000 in
theorem mth_row_8 : ((mths.dropLast.drop 400).take 50).map (fun mi => some (Cond.code mi.1 mi.2.1 mi.2.2.1 mi.2.2.2)) = ((mthP.drop 400).take 50).map (fun p => tbG p.1) := rfl
set_option maxRecDepth 100000 in
theorem mth_row_9 : ((mths.dropLast.drop 450).take 50).map (fun mi => some (Cond.code mi.1 mi.2.1 mi.2.2.1 mi.2.2.2)) = ((mthP.drop 450).take 37).map (fun p => tbG p.1) := rfl
set_option maxRecDepth 100000 in
theorem fld_chk : fldT.all fldOk = true := by decide +kernel
set_option maxRecDepth 100000 in
theorem sta_chk : staT.all staOk = true := by decide +kernel
set_option maxRecDepth 100000 in
theorem cal_chk : calT.all calOk = true := by decide +kernel
set_option maxRecDepth 100000 in
theorem cpy_chk : cpyT.all cpyOk = true := by decide +kernel
set_option maxRecDepth 100000 in
theorem lay_chk : (classes.zip layP).all layOk = true := by decide +kernel
set_option maxRecDepth 100000 in
theorem kd_chk : kds.all kdOk = true := by decide +kernel
